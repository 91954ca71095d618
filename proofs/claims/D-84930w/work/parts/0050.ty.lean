/-! ===== types as trees ===== -/
set_option maxRecDepth 100000
abbrev Tr : Type := Lean.Data.AC.Expr
abbrev lf (n : Nat) : Tr := Lean.Data.AC.Expr.var n
abbrev nd (a b : Tr) : Tr := Lean.Data.AC.Expr.op a b
def lv : Tr → Nat
  | .var r => r
  | _ => 0
def pl : List (Nat × Tr) → Tr
  | [] => lf 0
  | p :: ps => nd (nd (lf p.1) p.2) (pl ps)
def ul : Tr → List (Nat × Tr)
  | .op (.op (.var b) t) r => (b, t) :: ul r
  | _ => []
/-- a type: its form (0 a name, 1 a Union, 2 a tuple, 3 a function, 4 a variable), what it is of, its parts (1: below) -/
def ty (o r : Nat) (ps : List (Nat × Tr)) : Tr := nd (nd (lf o) (lf r)) (pl ps)
def fo : Tr → Nat
  | .op (.op (.var o) _) _ => o
  | _ => 99
def re : Tr → Nat
  | .op (.op _ b) _ => lv b
  | _ => 0
def pa : Tr → List (Nat × Tr)
  | .op _ r => ul r
  | _ => []
theorem ul_pl : ∀ l, ul (pl l) = l
  | [] => rfl
  | (b, t) :: l => by show (b, t) :: ul (pl l) = _; rw [ul_pl l]
theorem fo_ty {o r : Nat} {ps : List (Nat × Tr)} : fo (ty o r ps) = o := rfl
theorem re_ty {o r : Nat} {ps : List (Nat × Tr)} : re (ty o r ps) = r := rfl
theorem pa_ty {o r : Nat} {ps : List (Nat × Tr)} : pa (ty o r ps) = ps := ul_pl ps
theorem ty_inj {o r o' r' : Nat} {ps ps' : List (Nat × Tr)} : ty o r ps = ty o' r' ps' ↔ o = o' ∧ r = r' ∧ ps = ps' := by
  constructor
  · intro h
    exact ⟨by simpa [fo_ty] using congrArg fo h, by simpa [re_ty] using congrArg re h, by simpa [pa_ty] using congrArg pa h⟩
  · rintro ⟨rfl, rfl, rfl⟩; rfl
/-- worked out from the parts up -/
def tfo {α : Type} (F : Nat → Nat → List (Nat × α) → α) (z : α) : Tr → α × List (Nat × α)
  | .op (.op (.var x) t) r => (F x (lv t) (tfo F z r).2, (x, (tfo F z t).1) :: (tfo F z r).2)
  | _ => (z, [])
def tfold {α : Type} (F : Nat → Nat → List (Nat × α) → α) (z : α) (t : Tr) : α := (tfo F z t).1
theorem tfo_pl {α : Type} (F : Nat → Nat → List (Nat × α) → α) (z : α) : ∀ l, (tfo F z (pl l)).2 = l.map fun p => (p.1, tfold F z p.2)
  | [] => rfl
  | (b, t) :: l => by
    show (b, tfold F z t) :: (tfo F z (pl l)).2 = _
    rw [tfo_pl F z l]; rfl
theorem tfold_ty {α : Type} (F : Nat → Nat → List (Nat × α) → α) (z : α) (o r : Nat) (ps : List (Nat × Tr)) : tfold F z (ty o r ps) = F o r (ps.map fun p => (p.1, tfold F z p.2)) := by
  show F o r (tfo F z (pl ps)).2 = _
  rw [tfo_pl]
/-- types that are well made -/
def Wt_ : Nat → Tr → Prop
  | 0, _ => False
  | f + 1, t => t = ty (fo t) (re t) (pa t) ∧ ∀ p ∈ pa t, Wt_ f p.2
theorem ty_ind {P : Tr → Prop} (h : ∀ o r ps, (∀ p ∈ ps, P p.2) → P (ty o r ps)) : ∀ f t, Wt_ f t → P t
  | 0, _, hw => hw.elim
  | f + 1, t, hw => by rw [hw.1]; exact h _ _ _ fun p hp => ty_ind h f p.2 (hw.2 p hp)
/-- its size -/
def tsz : Tr → Nat := tfold (fun _ _ ps => 1 + (ps.map fun p => p.2).sum) 0
/-- whether a variable stands in it -/
def thv : Tr → Bool := tfold (fun o _ ps => o == 4 || ps.any fun p => p.2) false
theorem tsz_ty {o r : Nat} {ps : List (Nat × Tr)} : tsz (ty o r ps) = 1 + (ps.map fun p => tsz p.2).sum := by
  unfold tsz; rw [tfold_ty, List.map_map]; rfl
theorem thv_ty {o r : Nat} {ps : List (Nat × Tr)} : thv (ty o r ps) = (o == 4 || ps.any fun p => thv p.2) := by
  unfold thv; rw [tfold_ty, List.any_map]; rfl
/-- whether two trees are one -/
def teq : Tr → Tr → Bool
  | .var a, .var b => a == b
  | .op a b, .op c d => teq a c && teq b d
  | _, _ => false
theorem teq_iff : ∀ {a b : Tr}, teq a b = true ↔ a = b
  | .var a, .var b => by show (a == b) = true ↔ _; simp
  | .op a b, .op c d => by
    show (teq a c && teq b d) = true ↔ _
    rw [Bool.and_eq_true, teq_iff, teq_iff]; simp
  | .var a, .op c d => ⟨fun h => (nomatch h), fun h => (nomatch h)⟩
  | .op a b, .var c => ⟨fun h => (nomatch h), fun h => (nomatch h)⟩
theorem teq_self (a : Tr) : teq a a = true := teq_iff.mpr rfl
theorem teq_ne {a b : Tr} (h : a ≠ b) : teq a b = false := Bool.eq_false_iff.mpr fun z => h (teq_iff.mp z)
