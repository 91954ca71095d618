/-! ===== types as trees: measures ===== -/
set_option maxRecDepth 100000
def sm (g : Tr → Nat) (l : List (Nat × Tr)) : Nat := (l.map fun q => g q.2).sum
theorem sm_nil {g : Tr → Nat} : sm g [] = 0 := rfl
theorem sm_cons {g : Tr → Nat} {q : Nat × Tr} {l : List (Nat × Tr)} : sm g (q :: l) = g q.2 + sm g l := by simp [sm]
theorem sm_app {g : Tr → Nat} {l k : List (Nat × Tr)} : sm g (l ++ k) = sm g l + sm g k := by simp [sm]
theorem sm_mem {g : Tr → Nat} {q : Nat × Tr} : ∀ {l : List (Nat × Tr)}, q ∈ l → g q.2 ≤ sm g l
  | x :: l, h => by
    rw [sm_cons]
    rcases List.mem_cons.mp h with rfl | h
    · omega
    · have := sm_mem (g := g) h; omega
def mxl : List Nat → Nat
  | [] => 0
  | x :: l => max x (mxl l)
theorem mxl_mem {x : Nat} : ∀ {l : List Nat}, x ∈ l → x ≤ mxl l
  | y :: l, h => by
    unfold mxl
    rcases List.mem_cons.mp h with rfl | h
    · omega
    · have := mxl_mem h; omega
/-- how deep a type is -/
def tdp : Tr → Nat := tfold (fun _ _ ps => 1 + mxl (ps.map fun q => q.2)) 1
theorem tdp_ty {o r : Nat} {ps : List (Nat × Tr)} : tdp (ty o r ps) = 1 + mxl (ps.map fun q => tdp q.2) := by
  unfold tdp; rw [tfold_ty, List.map_map]; rfl
theorem tdp_lt {o r : Nat} {ps : List (Nat × Tr)} {q : Nat × Tr} (h : q ∈ ps) : tdp q.2 < tdp (ty o r ps) := by
  rw [tdp_ty]
  have := mxl_mem (List.mem_map_of_mem (f := fun q : Nat × Tr => tdp q.2) h)
  omega
/-- its variables are less than k -/
def tvl (k : Nat) : Tr → Bool := tfold (fun o r ps => (o != 4 || decide (r < k)) && ps.all fun q => q.2) true
theorem tvl_ty {k o r : Nat} {ps : List (Nat × Tr)} : tvl k (ty o r ps) = ((o != 4 || decide (r < k)) && ps.all fun q => tvl k q.2) := by
  unfold tvl; rw [tfold_ty, List.all_map]; rfl
/-- how many types are new where pieces are put, and parts of them -/
def tcn : Tr → Nat := tfold2 (fun o _ ps => if o = 4 ∨ (ps.any fun q => thv q.1.2) = false then 0 else 1 + (ps.map fun q => q.2).sum) 0
def tcd : Tr → Nat := tfold2 (fun o _ ps => if o = 4 ∨ (ps.any fun q => thv q.1.2) = false then 0 else ps.length + (ps.map fun q => q.2).sum) 0
theorem tcn_ty {o r : Nat} {ps : List (Nat × Tr)} : tcn (ty o r ps) = if o = 4 ∨ (ps.any fun q => thv q.2) = false then 0 else 1 + sm tcn ps := by
  unfold tcn; rw [tfold2_ty, List.any_map, List.map_map]; rfl
theorem tcd_ty {o r : Nat} {ps : List (Nat × Tr)} : tcd (ty o r ps) = if o = 4 ∨ (ps.any fun q => thv q.2) = false then 0 else ps.length + sm tcd ps := by
  unfold tcd; rw [tfold2_ty, List.any_map, List.map_map, List.length_map]; rfl
/-- pieces may be put: variables stand in names, and (where all pieces are exact) in tuples -/
def pok (e : Bool) : Tr → Bool := tfold2 (fun o _ ps => o == 4 || !(ps.any fun q => thv q.1.2) || ((o == 0 || o == 2 && e) && ps.all fun q => q.2)) true
theorem pok_ty {e : Bool} {o r : Nat} {ps : List (Nat × Tr)} : pok e (ty o r ps) = (o == 4 || !(ps.any fun q => thv q.2) || ((o == 0 || o == 2 && e) && ps.all fun q => pok e q.2)) := by
  unfold pok; rw [tfold2_ty, List.any_map, List.all_map]; rfl
theorem tsz_ty2 {o r : Nat} {ps : List (Nat × Tr)} : tsz (ty o r ps) = 1 + sm tsz ps := tsz_ty
