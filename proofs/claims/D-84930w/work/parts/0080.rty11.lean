/-! ===== the reference's types: above ===== -/
set_option maxRecDepth 100000
/-- what stands above a name with k params -/
def okab (k r : Nat) (t : Tr) : Prop := fo t = 0 ∧ re t < r ∧ tvl k t = true ∧ pok false t = true ∧ tcn t ≤ 1 ∧ tcd t ≤ 4 ∧ tsz t ≤ 500 ∧ tdp t ≤ 60
def abf (s : Sg) (p : Int) (r : Nat) : Tr := if (r : Int) < s 242 p 0 ∧ 0 ≤ s 246 p r then Ty s p (s 246 p r) else tAny
def AB (s : Sg) (p : Int) : Prop := s 1246 p 0 = 450 ∧ (s 246 p 0 < 0 ∧ s 246 p 3 < 0 ∧ s 246 p 4 < 0) ∧ ∀ r : Nat, (r : Int) < s 242 p 0 → r ≠ 0 → 0 ≤ s 246 p r → Id s p (s 246 p r) ∧ okab (s 245 p r).toNat r (Ty s p (s 246 p r))
/-- it is answered; types are as they were -/
def Bt (p : Int) (s : Sg) (r : Ro) (b : Bool) : Prop := ∃ s', r = ra (if b = true then 1 else 0) s' ∧ TX p 0 0 s s' ∧ s' 279 p 0 = s 279 p 0
section Rm0
variable {s s' t : Sg} {p a x y i j o r : Int} {L m c d : Nat} {ro : Ro} {bb : Bool}
theorem AB.u (h : AB s p) (hG : TG s p) (hX : TX p c d s s') : AB s' p ∧ abf s' p = abf s p := by
  have e42 := hX.2.1.g 242 (by decide +kernel)
  have e45 := hX.2.1.g 245 (by decide +kernel)
  have e46 := hX.2.1.g 246 (by decide +kernel)
  have e12 := hX.2.1.g 1246 (by decide +kernel)
  obtain ⟨h1, h2, h4⟩ := h
  refine ⟨⟨by rw [e12]; exact h1, by rw [e46]; exact h2, fun r hr h0 hp => ?_⟩, ?_⟩
  · rw [e42] at hr; rw [e46] at hp
    obtain ⟨g1, g2⟩ := h4 r hr h0 hp
    rw [e45, e46, hX.2.2.2.2.1 _ g1]
    exact ⟨g1.u hX, g2⟩
  · funext r
    unfold abf
    rw [e42, e46]
    by_cases q : (r : Int) < s 242 p 0 ∧ 0 ≤ s 246 p r
    · rw [if_pos q, if_pos q]
      by_cases h0 : r = 0
      · subst h0
        exact absurd q.2 (by show ¬ ((0 : Int) ≤ s 246 p 0); omega)
      · exact hX.2.2.2.2.1 _ (h4 r q.1 h0 q.2).1
    · rw [if_neg q, if_neg q]
theorem ti_fr (hT : TI s p) (hx : Id s p x) : Ty s p x = ty (fo (Ty s p x)) (re (Ty s p x)) (pa (Ty s p x)) := by
  rw [hT.eq hx, fo_ty, re_ty, pa_ty]
theorem AB.ok (h : AB s p) (hT : TI s p) (hN : NB s p) : AbOK (abf s p) (s 242 p 0).toNat := by
  obtain ⟨h1, ⟨h2, h3, h4⟩, h5⟩ := h
  refine ⟨by have := hN.2.1.2; omega, ?_, ?_, fun r hr h0 => ?_⟩
  · unfold abf; rw [if_neg (by show ¬ (_ ∧ (0 : Int) ≤ s 246 p 3); omega)]
  · unfold abf; rw [if_neg (by show ¬ (_ ∧ (0 : Int) ≤ s 246 p 4); omega)]
  · unfold abf
    by_cases q : (r : Int) < s 242 p 0 ∧ 0 ≤ s 246 p r
    · rw [if_pos q]
      obtain ⟨g1, g2⟩ := h5 r q.1 h0 q.2
      have e := ti_fr hT g1
      exact ⟨_, _, e.trans (by rw [g2.1]), g2.2.1⟩
    · rw [if_neg q]
      exact ⟨0, [], rfl, by omega⟩
theorem r_aboveOf (hG : TG s p) (hA : AB s p) (hx : Id s p x) (hC : Cap s p 5 4) (hg : s 279 p 0 + 500 ≤ 4000) (hL : 400000 < L) (hm : 60 ≤ m) : (tabove (abf s p) (Ty s p x) = none ∧ f_X21_aboveOf L m s p x = ra (-1) s) ∨ ∃ τ, tabove (abf s p) (Ty s p x) = some τ ∧ Mk p 5 4 s (f_X21_aboveOf L m s p x) τ := by
  have hT := hG.2.1
  have hb := hG.bd hx
  have z := hT.tn2 hx
  have hN := hG.2.2.1
  have hfo := hT.fo hx
  unfold f_X21_aboveOf tabove
  rw [cls_of hG.1.1, inb_of hb.1, inb_of hb.1, inb_of hb.1, hfo]
  by_cases h2 : s 268 0 x = 2
  · rw [if_pos h2, if_pos (by omega)]
    refine Or.inr ⟨_, rfl, ?_⟩
    have := (r_named (m := m) hG (r := 3) ⟨by omega, by have := hN.2.1; omega⟩ (by omega) hC hL).ra
    rw [hN.2.2.2 3 (by omega) (by omega)] at this
    exact this
  · rw [if_neg h2, if_neg (by omega)]
    by_cases h3 : s 268 0 x = 3
    · rw [if_pos h3, if_pos (by omega)]
      refine Or.inr ⟨_, rfl, ?_⟩
      have := (r_named (m := m) hG (r := 4) ⟨by omega, by have := hN.2.1; omega⟩ (by omega) hC hL).ra
      rw [hN.2.2.2 4 (by omega) (by omega)] at this
      exact this
    · rw [if_neg h3, if_neg (by omega)]
      have hre := hT.re hx h3
      by_cases h0 : s 268 0 x = 0
      · rw [if_pos h0, inb_of hb.2.1, hre]
        by_cases h4 : s 269 0 x = 0
        · rw [if_pos h4, if_neg (by omega)]
          exact Or.inl ⟨rfl, rfl⟩
        · rw [if_neg h4, if_pos ⟨by omega, by omega⟩, inb_of hb.2.1]
          have hvn := (hT.vn hx).1 h0
          have hr : ((s 269 0 x).toNat : Int) = s 269 0 x := by omega
          rw [inb_of ⟨by omega, by show _ < s 1246 p 0; rw [hA.1]; have := hN.2.1; omega⟩]
          refine Or.inr ⟨_, rfl, ?_⟩
          unfold abf
          rw [hr]
          by_cases h5 : s 246 p (s 269 0 x) < 0
          · rw [if_pos h5, if_neg (by omega)]
            exact ((r_any (m := m) hG (by omega) (hC.wd (by omega) (by omega)) hL).ra).u (by omega) (by omega)
          · rw [if_neg h5, if_pos ⟨hvn.1, by omega⟩]
            obtain ⟨g1, g2⟩ := hA.2.2 (s 269 0 x).toNat (by omega) (by omega) (by rw [hr]; omega)
            rw [hr] at g1 g2
            obtain ⟨q1, q2, q3, q4, q5, q6, q7, q8⟩ := g2
            have hlen : (pa (Ty s p x)).length = (s 245 p (s 269 0 x)).toNat := by rw [hT.pa hx]; omega
            have := r_put0 (p := p) (m := m) hL (1 * m) s (s 246 p (s 269 0 x)) x false hG g1 hx (by omega) (by rw [hlen]; exact q3) q4 (fun h => by cases h) (hC.wd (by omega) (by omega)) (by omega)
            exact (this.ra).u (by omega) (by omega)
      · rw [if_neg h0, if_neg (fun q => h0 (by omega))]
        exact Or.inl ⟨rfl, rfl⟩
end Rm0
