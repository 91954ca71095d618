/-! ===== types as trees: how often variables stand; kinds; bounds put ===== -/
set_option maxRecDepth 100000
def toc : Tr → Nat := tfold (fun o _ ps => if o = 4 then 1 else (ps.map fun q => q.2).sum) 0
theorem toc_ty {o r : Nat} {ps : List (Nat × Tr)} : toc (ty o r ps) = if o = 4 then 1 else sm toc ps := by
  unfold toc; rw [tfold_ty, List.map_map]; rfl
theorem toc_nv : ∀ f t, Wt_ f t → thv t = false → toc t = 0 := ty_ind (P := fun t => thv t = false → toc t = 0) fun o r ps ih hv => by
  rw [thv_ty, Bool.or_eq_false_iff] at hv
  rw [toc_ty, if_neg (fun e => by rw [e] at hv; exact absurd hv.1 (by decide))]
  have : ∀ l : List (Nat × Tr), (∀ q ∈ l, toc q.2 = 0) → sm toc l = 0 := fun l => by
    induction l with
    | nil => intro _; rfl
    | cons q l ih => intro h; rw [sm_cons, h q List.mem_cons_self, ih fun x hx => h x (List.mem_cons_of_mem _ hx)]
  exact this ps fun q hq => ih q hq (by have := List.any_eq_false.mp hv.2 q hq; simpa using this)
theorem toc_le : ∀ f t, Wt_ f t → toc t ≤ tsz t := ty_ind (P := fun t => toc t ≤ tsz t) fun o r ps ih => by
  rw [toc_ty, tsz_ty2]
  split
  · omega
  · have : ∀ l : List (Nat × Tr), (∀ q ∈ l, toc q.2 ≤ tsz q.2) → sm toc l ≤ sm tsz l := fun l => by
      induction l with
      | nil => intro _; exact Nat.le_refl 0
      | cons q l ih =>
        intro h
        rw [sm_cons, sm_cons]
        have h1 := h q List.mem_cons_self
        have h2 := ih fun x hx => h x (List.mem_cons_of_mem _ hx)
        omega
    have := this ps ih
    omega
/-- whether a type is a kind; st tells structs -/
def tkd (st : Nat → Bool) : Tr → Bool := tfold (fun o r ps => o == 3 || (o == 2 && ps.all fun q => q.2) || (o == 0 && (r == 8 || r == 9 || r == 2 || st r || r == 6 || r == 7) && ps.all fun q => q.1 != 1)) false
theorem tkd_ty {st : Nat → Bool} {o r : Nat} {ps : List (Nat × Tr)} : tkd st (ty o r ps) = (o == 3 || (o == 2 && ps.all fun q => tkd st q.2) || (o == 0 && (r == 8 || r == 9 || r == 2 || st r || r == 6 || r == 7) && ps.all fun q => q.1 != 1)) := by
  unfold tkd; rw [tfold_ty, List.all_map, List.all_map]; rfl
/-- bounds stand for variables -/
def ters (bs : List Tr) : Tr → Tr := tfold2 (fun o r ps => if o = 4 then bs.getD r (lf 0) else ty o r (ps.map fun q => (if o = 0 ∧ thv q.1.2 = true then 1 else q.1.1, q.2))) (lf 0)
theorem ters_ty {bs : List Tr} {o r : Nat} {ps : List (Nat × Tr)} : ters bs (ty o r ps) = if o = 4 then bs.getD r (lf 0) else ty o r (ps.map fun q => (if o = 0 ∧ thv q.2 = true then 1 else q.1, ters bs q.2)) := by
  unfold ters; rw [tfold2_ty, List.map_map]; rfl
theorem ters_nv {bs : List Tr} : ∀ f t, Wt_ f t → thv t = false → ters bs t = t := ty_ind (P := fun t => thv t = false → ters bs t = t) fun o r ps ih hv => by
  rw [thv_ty, Bool.or_eq_false_iff] at hv
  have hp : ∀ q ∈ ps, thv q.2 = false := fun q hq => by have := List.any_eq_false.mp hv.2 q hq; simpa using this
  rw [ters_ty, if_neg (fun e => by rw [e] at hv; exact absurd hv.1 (by decide))]
  refine ty_inj.mpr ⟨rfl, rfl, ?_⟩
  refine (List.map_congr_left fun q hq => ?_).trans (List.map_id ps)
  rw [ih q hq (hp q hq), hp q hq, if_neg (fun z => by simp at z)]
  rfl
