/-! ===== types as trees: laws of sub ===== -/
set_option maxRecDepth 100000
/-- what stands above names: names ahead of them -/
def AbOK (ab : Nat → Tr) (N : Nat) : Prop := N ≤ 57 ∧ ab 3 = tAny ∧ ab 4 = tAny ∧ ∀ r, r < N → r ≠ 0 → ∃ r' ps, ab r = ty 0 r' ps ∧ r' < r
/-- whether a piece is within another one -/
def twi (ab : Nat → Tr) (x y : Nat × Tr) : Bool := if y.1 = 1 then tsub ab x.2 y.2 else x.1 != 1 && teq x.2 y.2
section Sb
variable {ab : Nat → Tr} {N : Nat} {a b : Tr} {o r : Nat} {ps : List (Nat × Tr)}
theorem all2_map {α β γ : Type} (f : α → β → Bool) (g : γ → β) : ∀ (l : List α) (k : List γ), all2 f l (k.map g) = all2 (fun x y => f x (g y)) l k
  | [], [] => rfl
  | [], _ :: _ => rfl
  | _ :: _, [] => rfl
  | x :: l, y :: k => by show (f x (g y) && all2 f l (k.map g)) = _; rw [all2_map f g l k]; rfl
theorem all2_self {α : Type} {f : α → α → Bool} (h : ∀ x, f x x = true) : ∀ l : List α, all2 f l l = true
  | [] => rfl
  | x :: l => by show (f x x && all2 f l l) = true; rw [h, all2_self h l]; rfl
theorem clm_fuel (hA : AbOK ab N) : ∀ (f g : Nat) (t : Tr) (to : Nat), re t < f → re t < g → re t < N → clm ab f t to = clm ab g t to
  | 0, _, _, _, h, _, _ => by omega
  | _, 0, _, _, _, h, _ => by omega
  | f + 1, g + 1, t, to, hf, hg, hN => by
    unfold clm
    split
    · rfl
    · split
      · rfl
      · next h1 h2 =>
        obtain ⟨r', ps, e, hr⟩ := hA.2.2.2 (re t) hN h2
        rw [e, tput_ty, if_neg (by decide)]
        exact clm_fuel hA f g _ to (by rw [re_ty]; omega) (by rw [re_ty]; omega) (by rw [re_ty]; omega)
theorem clm_none (hA : AbOK ab N) : ∀ (f : Nat) (t : Tr) (to : Nat), re t < to → re t < N → clm ab f t to = none
  | 0, _, _, _, _ => rfl
  | f + 1, t, to, ht, hN => by
    unfold clm
    rw [if_neg (by omega)]
    split
    · rfl
    · next h2 =>
      obtain ⟨r', ps, e, hr⟩ := hA.2.2.2 (re t) hN h2
      rw [e, tput_ty, if_neg (by decide)]
      exact clm_none hA f _ to (by rw [re_ty]; omega) (by rw [re_ty]; omega)
theorem tsub_refl (h : b = ty o r ps) : tsub ab b b = true := by
  rw [h, tsub_ty, teq_self]; rfl
theorem tsub_any (a : Tr) : tsub ab a (ty 0 0 ps) = true := by rw [tsub_ty]; simp
/-- what is no Union -/
theorem tsub_nu (h : fo a ≠ 1) : tsub ab a (ty o r ps) = (teq a (ty o r ps) || (o == 0 && r == 0) ||
  (if o = 1 then ps.any fun q => tsub ab a q.2
   else if fo a = 2 then (if o = 0 then r == 3 else o == 2 && all2 (fun (x : Nat × Tr) q => tsub ab x.2 q.2) (pa a) ps)
   else if o ≠ 0 then false
   else if fo a = 3 then r == 4
   else if fo a ≠ 0 then false
   else match clm ab 100 a r with
     | none => false
     | some xs => all2 (twi ab) xs ps)) := by
  rw [tsub_ty, if_neg h]
  unfold tsubc
  rw [List.any_map, all2_map]
  have e : ∀ xs : List (Nat × Tr), all2 (fun (x : Nat × Tr) (q : (Nat × Tr) × (Tr → Bool)) => if q.1.1 = 1 then q.2 x.2 else x.1 != 1 && teq x.2 q.1.2) xs (ps.map fun q => (q, fun y => tsub ab y q.2)) = all2 (twi ab) xs ps := fun xs => by
    rw [all2_map]; rfl
  cases hc : clm ab 100 a r with
  | none => simp only [Function.comp_def]; cases (teq a (ty o r ps)) <;> cases (o == 0 && r == 0) <;> rfl
  | some xs => simp only [e, Function.comp_def]; cases (teq a (ty o r ps)) <;> cases (o == 0 && r == 0) <;> rfl
theorem tsub_un (h : fo a = 1) (h1 : ∀ x ∈ pa a, fo x.2 ≠ 1) (hn : a ≠ ty o r ps) (h0 : ¬ (o = 0 ∧ r = 0)) : tsub ab a (ty o r ps) = (pa a).all fun x => tsub ab x.2 (ty o r ps) := by
  rw [tsub_ty, if_pos h]
  have e1 : (teq a (ty o r ps)) = false := teq_ne hn
  have e2 : (o == 0 && r == 0) = false := by
    cases q : (o == 0 && r == 0) with
    | false => rfl
    | true => simp at q; exact absurd q h0
  rw [e1, e2]
  simp only [Bool.false_or]
  rw [Bool.eq_iff_iff, List.all_eq_true, List.all_eq_true]
  have e3 : ∀ x ∈ pa a, tsub ab x.2 (ty o r ps) = tsubc ab (ty o r ps) o r (ps.map fun q => (q, fun y => tsub ab y q.2)) x.2 := fun x hx => by
    rw [tsub_ty, if_neg (h1 x hx)]
    unfold tsubc
    cases (teq x.2 (ty o r ps)) <;> cases (o == 0 && r == 0) <;> rfl
  exact ⟨fun z x hx => by rw [e3 x hx]; exact z x hx, fun z x hx => by rw [← e3 x hx]; exact z x hx⟩
theorem twi_refl {x : Nat × Tr} (h : x.2 = ty o r ps) (h1 : x.1 ≤ 1) : twi ab x x = true := by
  unfold twi
  split
  · exact tsub_refl h
  · next q => rw [teq_self, Bool.and_true, bne_iff_ne]; omega
theorem tsub_b0 (h0 : ¬ (o = 0 ∧ r = 0)) : (o == 0 && r == 0) = false := by
  cases q : (o == 0 && r == 0) with
  | false => rfl
  | true => simp at q; exact absurd q h0
/-- where the names above one another stand -/
def tcl (ab : Nat → Tr) (a : Tr) (r : Nat) (ps : List (Nat × Tr)) : Bool := match clm ab 100 a r with
  | none => false
  | some xs => all2 (twi ab) xs ps
theorem tsub_n0 (ha : fo a = 0) (h1 : o ≠ 1) (h0 : ¬ (o = 0 ∧ r = 0)) : tsub ab a (ty o r ps) = (teq a (ty o r ps) || (o == 0 && tcl ab a r ps)) := by
  rw [tsub_nu (by omega), tsub_b0 h0, if_neg h1, ha, Bool.or_false]
  congr 1
  by_cases ho : o = 0
  · rw [if_neg (by decide), if_neg (fun z => z ho), if_neg (by decide), if_neg (fun z => z rfl), beq_iff_eq.mpr ho]; rfl
  · rw [if_neg (by decide), if_pos ho, beq_eq_false_iff_ne.mpr ho]; rfl
/-- one step up -/
theorem tsub_up (hA : AbOK ab N) (ha : fo a = 0) (hN : re a < N) (ha0 : re a ≠ 0) (hn : a ≠ ty o r ps) (h1 : o ≠ 1) (h0 : ¬ (o = 0 ∧ r = 0)) (hw : o = 0 → re a = r → all2 (twi ab) (pa a) ps = false) (hr : ∀ q ∈ ps, q.1 ≤ 1 ∧ ∃ o r ps, q.2 = ty o r ps) : tsub ab a (ty o r ps) = tsub ab (tput (pa a) (ab (re a))) (ty o r ps) := by
  obtain ⟨r', qs, e, hr'⟩ := hA.2.2.2 (re a) hN ha0
  have e2 : ∃ qs', tput (pa a) (ab (re a)) = ty 0 r' qs' := ⟨_, by rw [e, tput_ty, if_neg (by decide)]⟩
  obtain ⟨qs', e2⟩ := e2
  have hA57 := hA.1
  rw [tsub_n0 ha h1 h0, tsub_n0 (by rw [e2, fo_ty]) h1 h0, teq_ne hn, e2, Bool.false_or]
  by_cases ho : o = 0
  · rw [beq_iff_eq.mpr ho, Bool.true_and, Bool.true_and]
    unfold tcl
    by_cases hra : re a = r
    · have c1 : clm ab 100 a r = some (pa a) := by unfold clm; rw [if_pos hra]
      have c2 : clm ab 100 (ty 0 r' qs') r = none := clm_none hA _ _ _ (by rw [re_ty]; omega) (by rw [re_ty]; omega)
      have c3 : teq (ty 0 r' qs') (ty o r ps) = false := teq_ne fun z => by have := (ty_inj.mp z).2.1; omega
      rw [c1, c2, c3]
      exact hw ho hra
    · have c1 : clm ab 100 a r = clm ab 99 (ty 0 r' qs') r := by
        conv => lhs; unfold clm
        rw [if_neg hra, if_neg ha0, e2]
      rw [c1, clm_fuel hA 99 100 (ty 0 r' qs') r (by rw [re_ty]; omega) (by rw [re_ty]; omega) (by rw [re_ty]; omega)]
      by_cases c3 : ty 0 r' qs' = ty o r ps
      · rw [teq_iff.mpr c3, c3]
        have c4 : clm ab 100 (ty o r ps) r = some ps := by unfold clm; rw [re_ty, if_pos rfl, pa_ty]
        rw [c4]
        simp only [Bool.true_or]
        have : ∀ l : List (Nat × Tr), (∀ q ∈ l, q.1 ≤ 1 ∧ ∃ o r ps, q.2 = ty o r ps) → all2 (twi ab) l l = true := fun l => by
          induction l with
          | nil => intro _; rfl
          | cons q l ih =>
            intro h
            obtain ⟨h1, o', r'', ps', h2⟩ := h q List.mem_cons_self
            show (twi ab q q && all2 (twi ab) l l) = true
            rw [twi_refl h2 h1, ih fun x hx => h x (List.mem_cons_of_mem _ hx)]; rfl
        exact this ps hr
      · rw [teq_ne c3]; rfl
  · rw [beq_eq_false_iff_ne.mpr ho, teq_ne fun z => ho (ty_inj.mp z).1.symm]; rfl
theorem tsub_base (k : Nat) (hk : ab k = tAny) (hk0 : k ≠ 0) (h1 : o ≠ 1) (h0 : ¬ (o = 0 ∧ r = 0)) (hps : o = 0 → r = k → ps = []) : tsub ab (ty 0 k []) (ty o r ps) = (o == 0 && r == k) := by
  rw [tsub_n0 fo_ty h1 h0]
  by_cases ho : o = 0
  · subst ho
    by_cases hr : r = k
    · rw [hps rfl hr, hr, teq_self]; simp
    · have : clm ab 100 (ty 0 k []) r = none := by
        unfold clm
        rw [re_ty, if_neg (fun z => hr z.symm), if_neg hk0, hk, pa_ty, show tput [] tAny = tAny from rfl]
        unfold clm tAny
        rw [re_ty, if_neg (fun z => h0 ⟨rfl, z.symm⟩), if_pos rfl]
      unfold tcl
      rw [this, teq_ne fun z => hr (ty_inj.mp z).2.1.symm, beq_eq_false_iff_ne.mpr hr]; rfl
  · rw [teq_ne fun z => ho (ty_inj.mp z).1.symm, beq_eq_false_iff_ne.mpr ho]; rfl
theorem tsub_tup (h2 : fo a = 2) (ho : o ≠ 2) (h1 : o ≠ 1) (h0 : ¬ (o = 0 ∧ r = 0)) : tsub ab a (ty o r ps) = (o == 0 && r == 3) := by
  rw [tsub_nu (by omega), tsub_b0 h0, teq_ne (fun z => ho (by rw [z, fo_ty] at h2; exact h2)), if_neg h1, if_pos h2]
  by_cases q : o = 0
  · rw [if_pos q, q]; rfl
  · rw [if_neg q, beq_eq_false_iff_ne.mpr q, beq_eq_false_iff_ne.mpr ho]; rfl
theorem tsub_tt (h2 : fo a = 2) (hn : a ≠ ty 2 r ps) : tsub ab a (ty 2 r ps) = all2 (fun (x : Nat × Tr) q => tsub ab x.2 q.2) (pa a) ps := by
  rw [tsub_nu (by omega), tsub_b0 (by omega), teq_ne hn, if_neg (by decide), if_pos h2, if_neg (by decide)]; rfl
theorem tsub_fun (h2 : fo a = 3) (hn : a ≠ ty o r ps) (h1 : o ≠ 1) (h0 : ¬ (o = 0 ∧ r = 0)) : tsub ab a (ty o r ps) = (o == 0 && r == 4) := by
  rw [tsub_nu (by omega), tsub_b0 h0, teq_ne hn, if_neg h1, if_neg (by omega)]
  by_cases q : o = 0
  · rw [if_neg (fun z => z q), if_pos h2, q]; rfl
  · rw [if_pos q, beq_eq_false_iff_ne.mpr q]; rfl
theorem tsub_var (h2 : 3 < fo a) (hn : a ≠ ty o r ps) (h1 : o ≠ 1) (h0 : ¬ (o = 0 ∧ r = 0)) : tsub ab a (ty o r ps) = false := by
  rw [tsub_nu (by omega), tsub_b0 h0, teq_ne hn, if_neg h1, if_neg (by omega)]
  by_cases q : o = 0
  · rw [if_neg (fun z => z q), if_neg (by omega), if_pos (by omega)]; rfl
  · rw [if_pos q]; rfl
theorem tsub_or (h : fo a ≠ 1) (hn : a ≠ ty 1 r ps) : tsub ab a (ty 1 r ps) = ps.any fun q => tsub ab a q.2 := by
  rw [tsub_nu h, tsub_b0 (by omega), teq_ne hn, if_pos rfl]; rfl
end Sb
