/-! ===== types as trees: put, sub ===== -/
set_option maxRecDepth 100000
/-- worked out from the parts up, these at hand -/
def tfx {α : Type} (F : Nat → Nat → List ((Nat × Tr) × α) → α) (z : α) : Tr → α × List ((Nat × Tr) × α)
  | .op (.op (.var x) t) r => (F x (lv t) (tfx F z r).2, ((x, t), (tfx F z t).1) :: (tfx F z r).2)
  | _ => (z, [])
def tfold2 {α : Type} (F : Nat → Nat → List ((Nat × Tr) × α) → α) (z : α) (t : Tr) : α := (tfx F z t).1
theorem tfx_pl {α : Type} (F : Nat → Nat → List ((Nat × Tr) × α) → α) (z : α) : ∀ l, (tfx F z (pl l)).2 = l.map fun p => (p, tfold2 F z p.2)
  | [] => rfl
  | (b, t) :: l => by
    show ((b, t), tfold2 F z t) :: (tfx F z (pl l)).2 = _
    rw [tfx_pl F z l]; rfl
theorem tfold2_ty {α : Type} (F : Nat → Nat → List ((Nat × Tr) × α) → α) (z : α) (o r : Nat) (ps : List (Nat × Tr)) : tfold2 F z (ty o r ps) = F o r (ps.map fun p => (p, tfold2 F z p.2)) := by
  show F o r (tfx F z (pl ps)).2 = _
  rw [tfx_pl]
def tAny : Tr := ty 0 0 []
def bor (a b : Nat) : Nat := if a = 1 ∨ b = 1 then 1 else 0
/-- pieces are put for variables -/
def tput (args : List (Nat × Tr)) : Tr → Tr := tfold2 (fun o r ps => if o = 4 then (args.getD r (0, lf 0)).2 else ty o r (ps.map fun q => if fo q.1.2 = 4 then (bor q.1.1 (args.getD (re q.1.2) (0, lf 0)).1, q.2) else (q.1.1, q.2))) (lf 0)
theorem tput_ty {args : List (Nat × Tr)} {o r : Nat} {ps : List (Nat × Tr)} : tput args (ty o r ps) = if o = 4 then (args.getD r (0, lf 0)).2 else ty o r (ps.map fun q => if fo q.2 = 4 then (bor q.1 (args.getD (re q.2) (0, lf 0)).1, tput args q.2) else (q.1, tput args q.2)) := by
  unfold tput; rw [tfold2_ty, List.map_map]; rfl
theorem thv_fo4 {t : Tr} (h : fo t = 4) : thv t = true := by
  match t, h with
  | .op (.op (.var o) b) r, h =>
    have : o = 4 := h
    show (o == 4 || _) = true
    rw [this]; rfl
theorem tput_nv {args : List (Nat × Tr)} : ∀ f u, Wt_ f u → thv u = false → tput args u = u := ty_ind (P := fun u => thv u = false → tput args u = u) fun o r ps ih hv => by
  rw [thv_ty, Bool.or_eq_false_iff] at hv
  have ho : o ≠ 4 := fun e => by rw [e] at hv; exact absurd hv.1 (by decide)
  have hp : ∀ q ∈ ps, thv q.2 = false := fun q hq => by
    have := List.any_eq_false.mp hv.2 q hq
    simpa using this
  rw [tput_ty, if_neg ho]
  refine ty_inj.mpr ⟨rfl, rfl, ?_⟩
  refine (List.map_congr_left fun q hq => ?_).trans (List.map_id ps)
  have h1 := hp q hq
  rw [ih q hq h1, if_neg]
  · rfl
  · intro e4
    have := thv_fo4 e4
    rw [this] at h1
    cases h1
/-- what is above a type -/
def tabove (ab : Nat → Tr) (t : Tr) : Option Tr := if fo t = 2 then some (ty 0 3 []) else if fo t = 3 then some (ty 0 4 []) else if fo t = 0 ∧ re t ≠ 0 then some (tput (pa t) (ab (re t))) else none
/-- the pieces of what is above a named type, under a name -/
def clm (ab : Nat → Tr) : Nat → Tr → Nat → Option (List (Nat × Tr))
  | 0, _, _ => none
  | f + 1, t, to => if re t = to then some (pa t) else if re t = 0 then none else clm ab f (tput (pa t) (ab (re t))) to
def all2 {α β : Type} (f : α → β → Bool) : List α → List β → Bool
  | [], [] => true
  | a :: l, b :: m => f a b && all2 f l m
  | _, _ => false
/-- whether a type is sub of another one: of the other one out of its parts -/
def tsubc (ab : Nat → Tr) (b : Tr) (o r : Nat) (ps : List ((Nat × Tr) × (Tr → Bool))) (a : Tr) : Bool :=
  teq a b || (o == 0 && r == 0) ||
  (if o = 1 then ps.any fun q => q.2 a
   else if fo a = 2 then (if o = 0 then r == 3 else o == 2 && all2 (fun (x : Nat × Tr) q => q.2 x.2) (pa a) ps)
   else if o ≠ 0 then false
   else if fo a = 3 then r == 4
   else if fo a ≠ 0 then false
   else match clm ab 100 a r with
     | none => false
     | some xs => all2 (fun (x : Nat × Tr) q => if q.1.1 = 1 then q.2 x.2 else x.1 != 1 && teq x.2 q.1.2) xs ps)
def tsubr (ab : Nat → Tr) : Tr → Tr → Bool := tfold2 (fun o r ps a =>
  let b := ty o r (ps.map fun q => q.1)
  teq a b || (o == 0 && r == 0) || (if fo a = 1 then (pa a).all fun x => tsubc ab b o r ps x.2 else tsubc ab b o r ps a)) fun _ => false
def tsub (ab : Nat → Tr) (a b : Tr) : Bool := tsubr ab b a
theorem tsub_ty {ab : Nat → Tr} {a : Tr} {o r : Nat} {ps : List (Nat × Tr)} : tsub ab a (ty o r ps) = (teq a (ty o r ps) || (o == 0 && r == 0) || (if fo a = 1 then (pa a).all fun x => tsubc ab (ty o r ps) o r (ps.map fun q => (q, fun y => tsub ab y q.2)) x.2 else tsubc ab (ty o r ps) o r (ps.map fun q => (q, fun y => tsub ab y q.2)) a)) := by
  unfold tsub tsubr
  rw [tfold2_ty]
  simp only [List.map_map]
  have e : (ps.map ((fun q : (Nat × Tr) × (Tr → Bool) => q.1) ∘ fun p => (p, tfold2 (fun o r ps a => teq a (ty o r (ps.map fun q => q.1)) || (o == 0 && r == 0) || (if fo a = 1 then (pa a).all fun x => tsubc ab (ty o r (ps.map fun q => q.1)) o r ps x.2 else tsubc ab (ty o r (ps.map fun q => q.1)) o r ps a)) (fun _ => false) p.2))) = ps := by
    exact (List.map_congr_left fun _ _ => rfl).trans (List.map_id ps)
  rw [e]
