/-! ===== the reference's types: named, tuples, cut ===== -/
set_option maxRecDepth 100000
def tNam (r k : Nat) : Tr := ty 0 r (List.replicate k (1, tAny))
section Ri0
variable {s s' t u : Sg} {p x y i j a o r h v w b : Int} {L m n c d c' d' q : Nat} {l : List (Nat × Tr)} {ro : Ro} {τ : Tr}
theorem Mk.ra (h : Mk p c d s ro τ) : Mk p c d s (rb ro fun v s => ra v s) τ := by
  obtain ⟨v, s', e, h1⟩ := h
  rw [e]
  exact ⟨v, s', rfl, h1⟩
theorem Mk.cls (hL : TL s p) (h : Mk p c d s ro τ) : Mk p c d s (cls s p 1021 ro) τ := by rw [cls_of hL.1]; exact h
theorem named_p7 (hr : 0 ≤ r ∧ r < s 242 p 0) (hL : 400000 < L) : ∀ (L9 e k : Nat) (t : Sg), (t 242 p 0 = s 242 p 0 ∧ t 245 p r = s 245 p r) → TG t p → GL t p a (List.replicate k (1, tAny)) → ((k : Int) + e = s 245 p r) → e < L9 → Cap t p (e + 1) (k + e) → t 279 p 0 + e ≤ 4000 →
    ∃ v s', f_X21_named_p7 L m p L9 t r a k = ra v s' ∧ TX p (e + 1) (k + e) t s' ∧ Id s' p v ∧ Ty s' p v = tNam r.toNat (k + e) ∧ s' 279 p 0 = a
  | 0, e, k, t, _, _, _, _, h, _, _ => by omega
  | L9 + 1, 0, k, t, he, hG, hl, hk, _, hC, hg => by
    have hb := hG.2.2.1
    unfold f_X21_named_p7
    rw [inb_of ⟨by omega, by show r < t 1245 p 0; rw [hb.1]; have := hb.2.1; omega⟩, if_neg (by omega)]
    obtain ⟨v, s', e1, hX, h1, h2, h3⟩ := r_mk (m := m) (o := 0) (r := r) hG hl (hC.wd (by omega) (by simp)) (by decide) (by have := hb.2.1; omega) hL (VN.of0 (by omega) (by simp; omega)) (by decide)
    rw [e1, rb_ra]
    exact ⟨v, s', rfl, hX.wd (by omega) (by simp), h1, h2, h3⟩
  | L9 + 1, e + 1, k, t, he, hG, hl, hk, h9, hC, hg => by
    have hb := hG.2.2.1
    have hb3 := hb.2.2.1 r (by omega) (by omega)
    unfold f_X21_named_p7
    rw [inb_of ⟨by omega, by show r < t 1245 p 0; rw [hb.1]; have := hb.2.1; omega⟩, if_pos (by omega)]
    obtain ⟨v, s1, e1, hX, h1, h2, h3⟩ := r_any (m := m) hG (by omega) (hC.wd (by omega) (by omega)) hL
    have hG1 := hG.u hX (by rw [h3]; exact hG.2.2.2)
    have hl1 := hl.ext hX h3
    have hX2 := gth_X (x := v) (b := 1) hG1.2.1
    have hl2 := hl1.push hG1.2.1 (by omega) h1 (Or.inr rfl)
    rw [h2] at hl2
    have hX3 := hX.tr (by omega) hX2
    have hG2 := hG1.u hX2 (by rw [gth_9]; have := hG1.2.2.2; omega)
    rw [e1, rb_ra, r_gather hG1 (by omega) (Or.inr rfl), rb_ra, w3_i (by omega), show ((k : Int) + 1) = ((k + 1 : Nat) : Int) by omega]
    have e45 := hX3.2.1.g 245 (by decide +kernel)
    have e42 := hX3.2.1.g 242 (by decide +kernel)
    obtain ⟨v', s', f1, f2, f3, f4, f5⟩ := named_p7 hr hL L9 e (k + 1) _ ⟨by rw [e42]; exact he.1, by rw [e45]; exact he.2⟩ hG2 (by rw [List.replicate_succ']; exact hl2) (by omega) (by omega) (Cap.af (c := 1 + 0) (d := 0 + 0) (hC.wd (by omega) (by omega)) hX3) (by rw [gth_9]; omega)
    refine ⟨v', s', f1, (hX3.tr (by rw [gth_9]; omega) f2).wd (by omega) (by omega), f3, ?_, f5⟩
    rw [f4, show k + 1 + e = k + (e + 1) by omega]
theorem r_named (hG : TG s p) (hr : 0 ≤ r ∧ r < s 242 p 0) (hg : s 279 p 0 ≤ 3990) (hC : Cap s p 5 4) (hL : 400000 < L) : Mk p 5 4 s (f_X21_named L m s p r) (tNam r.toNat (s 245 p r).toNat) := by
  have hb := hG.2.2.1
  have hb3 := hb.2.2.1 r (by omega) (by omega)
  obtain ⟨v, s', e, f2, f3, f4, f5⟩ := named_p7 (s := s) (m := m) (a := s 279 p 0) hr hL L (s 245 p r).toNat 0 s ⟨rfl, rfl⟩ hG (GL.nil ⟨hG.2.2.2, by omega⟩) (by omega) (by omega) (hC.wd (by omega) (by omega)) (by omega)
  unfold f_X21_named
  rw [cls_of hG.1.1]
  exact ⟨v, s', e, f2.wd (by omega) (by omega), f3, by rw [f4, Nat.zero_add], f5⟩
/-- types behind a mark go -/
theorem cut_p0 (hL : TL t p) (hx : 0 ≤ x) : ∀ (L9 e : Nat) (u : Sg), Fk (km [266, 275]) t u → u 266 p 0 = x + e → u 266 p 0 ≤ 116000 → e < L9 → (∀ h : Int, 0 ≤ h → h < 16384 → Chn t (u 275 0 h) (bk t h (u 266 p 0).toNat)) →
    ∃ u', f_X21_cutTypes_p0 L m p L9 u x = ra 0 (up u' 267 p 0 (w3 (pe t x.toNat))) ∧ Fk (km [266, 275]) t u' ∧ u' 266 p 0 = x ∧ (∀ h : Int, 0 ≤ h → h < 16384 → Chn t (u' 275 0 h) (bk t h x.toNat))
  | 0, e, u, _, _, _, h, _ => by omega
  | L9 + 1, 0, u, hF, e, hc, _, hch => by
    refine ⟨u, ?_, hF, by omega, by rw [show x.toNat = (u 266 p 0).toNat by omega]; exact hch⟩
    unfold f_X21_cutTypes_p0
    rw [if_neg (by omega)]
    have e0 : u 266 p 0 = x := by omega
    rw [e0]
    unfold pe
    by_cases h0 : x = 0
    · rw [if_pos h0, if_pos (by omega), w3_i (by decide)]; rfl
    · rw [if_neg h0, if_neg (by omega)]
      have q0 := hF.g 270 (by decide +kernel)
      have q1 := hF.g 271 (by decide +kernel)
      have q2 := hF.g 1270 (by decide +kernel)
      have q3 := hF.g 1271 (by decide +kernel)
      have l3 : u (1000 + 270) 0 0 = 116000 := by rw [show 1000 + 270 = 1270 from rfl, q2]; exact hL.2.1.2.2.1
      have l4 : u (1000 + 271) 0 0 = 116000 := by rw [show 1000 + 271 = 1271 from rfl, q3]; exact hL.2.1.2.2.2.1
      rw [w3_i (z := x - 1) (by omega), inb_of ⟨by omega, by rw [l3]; omega⟩, inb_of ⟨by omega, by rw [l4]; omega⟩, pt_b, q0, q1, show ((x.toNat : Nat) : Int) - 1 = x - 1 by omega]
  | L9 + 1, e + 1, u, hF, e0, hc, he, hch => by
    unfold f_X21_cutTypes_p0
    rw [if_pos (by omega), pt_b, w3_i (by omega)]
    obtain ⟨N, hN⟩ : ∃ N : Nat, u 266 p 0 = N + 1 := ⟨(u 266 p 0 - 1).toNat, by omega⟩
    obtain ⟨u1, hu1⟩ : ∃ z, z = up u 266 p 0 (u 266 p 0 - 1) := ⟨_, rfl⟩
    rw [← hu1]
    have hF1 : Fk (km [266, 275]) t u1 := by rw [hu1]; exact hF.up (by decide +kernel)
    have e1 : u1 266 p 0 = N := by rw [hu1, up_me]; omega
    have q73 := hF1.g 273 (by decide +kernel)
    have q76 := hF1.g 276 (by decide +kernel)
    have l73 : u1 (1000 + 273) 0 0 = 116000 := by rw [hF1.g (1000 + 273) (by decide +kernel)]; exact hL.2.1.2.2.2.2.2.1
    have l76 : u1 (1000 + 276) 0 0 = 116000 := by rw [hF1.g (1000 + 276) (by decide +kernel)]; exact hL.2.1.2.2.2.2.2.2
    have l75 : u1 (1000 + 275) 0 0 = 16384 := by rw [hF1.g (1000 + 275) (by decide +kernel)]; exact hL.2.2.2.1
    have hm := Int.emod_nonneg (t 273 0 N) (b := 16384) (by decide)
    have hm2 := Int.emod_lt_of_pos (t 273 0 N) (b := 16384) (by decide)
    rw [e1, an3_14, q73, q76, inb_of ⟨by omega, by rw [l73]; omega⟩, inb_of ⟨by omega, by rw [l76]; omega⟩, inb_of ⟨hm, by rw [l75]; exact hm2⟩, pt_b]
    refine cut_p0 hL hx L9 e _ (hF1.up (by decide +kernel)) (by rw [up_k (by decide)]; omega) (by rw [up_k (by decide)]; omega) (by omega) fun h h0 h1 => ?_
    have h5 := hch h h0 h1
    have q75 : u1 275 = u 275 := by rw [hu1, up_k (by decide)]
    rw [up_k (k := 275) (k' := 266) (by decide), e1, show ((N : Int).toNat) = N by omega, up_s, q75]
    rw [show (u 266 p 0).toNat = N + 1 by omega] at h5
    unfold bk at h5
    by_cases q : t 273 0 N % 16384 = h
    · rw [if_pos q] at h5
      rw [if_pos q.symm]
      exact h5.2
    · rw [if_neg q] at h5
      rw [if_neg (fun z => q z.symm)]
      exact h5
theorem r_cut (hL : TL t p) (hT : TI t p) (hx : 0 ≤ x ∧ x ≤ t 266 p 0) (hl : 400000 < L) : ∃ t', f_X21_cutTypes L m t p x = ra 0 t' ∧ TI t' p ∧ t' 266 p 0 = x ∧ t' 267 p 0 = pe t x.toNat ∧ Fk (km [266, 267, 275]) t t' ∧ (∀ i, 0 ≤ i → i < x → Ty t' p i = Ty t p i) := by
  obtain ⟨n, t1, t2, t3, t4, t5, t6, t7⟩ := id hT
  obtain ⟨u', e, f1, f2, f3⟩ := cut_p0 (m := m) hL hx.1 L (t 266 p 0 - x).toNat t Fk.rf (by omega) (by omega) (by omega) (by rw [t1, show ((n : Int).toNat) = n by omega]; exact t6)
  have hp := pe_le (k := x.toNat) (by omega) t5
  have hp2 := pe_le (k := n) (Nat.le_refl n) t5
  have hF : Fk (km [266, 267, 275]) t (up u' 267 p 0 (w3 (pe t x.toNat))) := Fk.up (fun k hk => f1 k (by
    have : km [266, 267, 275] = km [266, 275] ||| km [267] := by decide +kernel
    rw [this, Nat.testBit_or] at hk
    simp only [Bool.or_eq_false_iff] at hk
    exact hk.1)) (by decide +kernel)
  have g := fun k hk => hF.g k hk
  have hns : ∀ i : Nat, i < x.toNat → Ns t (up u' 267 p 0 (w3 (pe t x.toNat))) i := fun i hi => by
    unfold Ns
    rw [g 268 (by decide +kernel), g 269 (by decide +kernel), g 270 (by decide +kernel), g 271 (by decide +kernel), g 272 (by decide +kernel), g 273 (by decide +kernel)]
    exact ⟨rfl, rfl, rfl, rfl, rfl, rfl⟩
  have hu := fun {i : Nat} (hi : i < x.toNat) => TN.u (s' := up u' 267 p 0 (w3 (pe t x.toNat))) (fun i (hi : i < x.toNat) => t5 i (by omega)) hns (fun j _ _ => by rw [g 274 (by decide +kernel)]) ⟨by rw [g 257 (by decide +kernel)], by rw [g 258 (by decide +kernel)]⟩ ⟨by rw [g 242 (by decide +kernel)], by rw [g 245 (by decide +kernel)], by rw [g 256 (by decide +kernel)]⟩ hi
  have e66 : up u' 267 p 0 (w3 (pe t x.toNat)) 266 p 0 = x := by rw [up_k (by decide)]; exact f2
  have e67 : up u' 267 p 0 (w3 (pe t x.toNat)) 267 p 0 = pe t x.toNat := by rw [up_me, w3_i (by omega)]
  have hpu : pe (up u' 267 p 0 (w3 (pe t x.toNat))) x.toNat = pe t x.toNat := pe_u (n := x.toNat) (fun i hi => ⟨(hns i hi).2.2.1, (hns i hi).2.2.2.1⟩) (Nat.le_refl _)
  refine ⟨_, by unfold f_X21_cutTypes; rw [cls_of hL.1]; exact e, ⟨x.toNat, by rw [e66]; omega, by omega, by rw [e67, hpu], by rw [e67]; omega, fun i hi => (hu hi).1, fun b b0 b1 => ?_, fun i j hi hj e => t7 i j (by omega) (by omega) (by rwa [(hu hi).2, (hu hj).2] at e)⟩, e66, e67, hF, fun i i0 i1 => ?_⟩
  · rw [up_k (by decide), bk_u (s := t) _ fun i _ => by rw [g 273 (by decide +kernel)]]
    exact Chn_u _ _ (fun i _ => by rw [g 276 (by decide +kernel)]) (f3 b b0 b1)
  · have := (hu (i := i.toNat) (by omega)).2
    rwa [show ((i.toNat : Nat) : Int) = i by omega] at this
/-- back to what there was -/
theorem TX.cut (hL : TL s p) (hT : TI s p) (hX : TX p c d s t) (hl : 400000 < L) : ∃ t', f_X21_cutTypes L m t p (s 266 p 0) = ra 0 t' ∧ TX p 0 0 s t' ∧ t' 279 p 0 = t 279 p 0 ∧ t' 266 p 0 = s 266 p 0 := by
  have hc := hT.cap
  obtain ⟨n, t1, _, t3, _, t5, _⟩ := id hT
  obtain ⟨t', e, f1, f2, f3, f4, f5⟩ := r_cut (m := m) (hL.u hX.2.1) hX.1 (x := s 266 p 0) ⟨by omega, hX.2.2.1.1⟩ hl
  have g := fun k hk => f4.g k hk
  refine ⟨t', e, ⟨f1, hX.2.1.tr fun k hk => f4 k ?_, by omega, ?_, fun i hi => ?_, fun j j0 j1 => ?_, fun i hi => ?_⟩, by rw [g 279 (by decide +kernel)], f2⟩
  · have : kT = km [266, 267, 275] ||| km [268, 269, 270, 271, 272, 273, 274, 276, 277, 278, 279] := by decide +kernel
    rw [this, Nat.testBit_or] at hk
    simp only [Bool.or_eq_false_iff] at hk
    exact hk.1
  · have : pe t (s 266 p 0).toNat = pe s n := by
      rw [t1, show ((n : Int).toNat) = n by omega]
      exact pe_u (n := n) (fun i hi => by
        have := hX.2.2.2.2.2.2 i ⟨by omega, by omega⟩
        exact ⟨this.2.2.1, this.2.2.2.1⟩) (Nat.le_refl n)
    omega
  · rw [f5 i hi.1 hi.2]
    exact hX.2.2.2.2.1 i hi
  · rw [g 277 (by decide +kernel), g 278 (by decide +kernel)]
    exact hX.2.2.2.2.2.1 j j0 j1
  · rw [g 268 (by decide +kernel), g 269 (by decide +kernel), g 270 (by decide +kernel), g 271 (by decide +kernel), g 272 (by decide +kernel), g 274 (by decide +kernel)]
    exact hX.2.2.2.2.2.2 i hi
end Ri0
