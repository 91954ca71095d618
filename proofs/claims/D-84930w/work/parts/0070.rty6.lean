/-! ===== the reference's types: gathered, named ===== -/
set_option maxRecDepth 100000
/-- names that are always there -/
def NB (s : Sg) (p : Int) : Prop := s 1245 p 0 = 450 ∧ (17 ≤ s 242 p 0 ∧ s 242 p 0 ≤ 57) ∧ (∀ t, 0 ≤ t → t < s 242 p 0 → 0 ≤ s 245 p t ∧ s 245 p t ≤ 4) ∧ (∀ t, 0 ≤ t → t < 17 → s 245 p t = if t = 6 ∨ t = 7 then 1 else 0)
def TG (s : Sg) (p : Int) : Prop := TL s p ∧ TI s p ∧ NB s p ∧ 0 ≤ s 279 p 0
/-- a type is made -/
def Mk (p : Int) (c d : Nat) (s : Sg) (r : Ro) (t : Tr) : Prop := ∃ v s', r = ra v s' ∧ TX p c d s s' ∧ Id s' p v ∧ Ty s' p v = t ∧ s' 279 p 0 = s 279 p 0
/-- what is gathered from a place on is a row -/
def GL (s : Sg) (p a : Int) (l : List (Nat × Tr)) : Prop := GA s p a ∧ s 279 p 0 = a + l.length ∧ gps s p a l.length = l
def gth (s : Sg) (p x b : Int) : Sg := up (up (up s 277 p (s 279 p 0) x) 278 p (s 279 p 0) b) 279 p 0 (s 279 p 0 + 1)
section Rh0
variable {s s' t : Sg} {p x y i j a o r h v w b : Int} {L m n c d c' d' q : Nat} {l : List (Nat × Tr)} {ro : Ro} {τ : Tr}
theorem NB.u (h : NB s p) (hF : Fk kT s s') : NB s' p := by
  unfold NB at *
  rw [hF.g 1245 (by decide +kernel), hF.g 242 (by decide +kernel), hF.g 245 (by decide +kernel)]
  exact h
theorem TG.u (h : TG s p) (hX : TX p c d s s') (h0 : 0 ≤ s' 279 p 0) : TG s' p := ⟨h.1.u hX.2.1, hX.1, h.2.2.1.u hX.2.1, h0⟩
theorem TG.rf (h : TG s p) : TX p 0 0 s s := TX.rf h.2.1
theorem gth_K (hT : TI s p) : Kt_ s (gth s p x b) := ((Kt_.rf.u (by decide)).u (by decide)).u (by decide)
theorem gth_X (hT : TI s p) : TX p 0 0 s (gth s p x b) := by
  refine TX.k hT (gth_K hT) (((Fk.rf.up (by decide +kernel)).up (by decide +kernel)).up (by decide +kernel)) fun j j0 j1 => ?_
  unfold gth
  rw [up_k (by decide), up_k (by decide), up_j (by omega), up_k (by decide), up_j (by omega), up_k (by decide)]
  exact ⟨rfl, rfl⟩
theorem gth_9 : gth s p x b 279 p 0 = s 279 p 0 + 1 := up_me
theorem gth_7 : gth s p x b 277 p (s 279 p 0) = x := by unfold gth; rw [up_k (by decide), up_k (by decide), up_me]
theorem gth_8 : gth s p x b 278 p (s 279 p 0) = b := by unfold gth; rw [up_k (by decide), up_me]
theorem r_gather (hG : TG s p) (hg : s 279 p 0 < 4000) (hb : b = 0 ∨ b = 1) : f_X21_gather L m s p x b = ra 0 (gth s p x b) := by
  obtain ⟨hL, hT, hN, h0⟩ := hG
  unfold f_X21_gather
  rw [cls_of hL.1, inb_of ⟨h0, by rw [hL.2.2.2.2.1]; exact hg⟩, pt_b, ck_of hb, inb_of]
  · simp only [pt_b, up2]
    simp
    rw [w3_i (by omega)]
    rfl
  · simp [up2, h0, hL.2.2.2.2.2, hg]
theorem Mk.u (h : Mk p c d s ro τ) (hc : c ≤ c') (hd : d ≤ d') : Mk p c' d' s ro τ := by
  obtain ⟨v, s', e, hX, h1⟩ := h
  exact ⟨v, s', e, ⟨hX.1, hX.2.1, ⟨hX.2.2.1.1, by have := hX.2.2.1.2; omega⟩, by have := hX.2.2.2.1; omega, hX.2.2.2.2⟩, h1⟩
theorem TX.wd (hX : TX p c d s s') (hc : c ≤ c') (hd : d ≤ d') : TX p c' d' s s' := ⟨hX.1, hX.2.1, ⟨hX.2.2.1.1, by have := hX.2.2.1.2; omega⟩, by have := hX.2.2.2.1; omega, hX.2.2.2.2⟩
theorem Cap.af (h : Cap s p (c + c') (d + d')) (hX : TX p c d s s') : Cap s' p c' d' := by
  obtain ⟨h1, h2⟩ := h
  have := hX.2.2.1.2; have := hX.2.2.2.1
  exact ⟨by omega, by omega⟩
theorem Cap.wd (h : Cap s p c' d') (hc : c ≤ c') (hd : d ≤ d') : Cap s p c d := ⟨by have := h.1; omega, by have := h.2; omega⟩
theorem GL.nil (h0 : 0 ≤ s 279 p 0 ∧ s 279 p 0 ≤ 4000) : GL s p (s 279 p 0) [] := ⟨⟨⟨h0.1, Int.le_refl _, h0.2⟩, fun k h1 h2 => by omega⟩, by simp, rfl⟩
theorem GL.push (h : GL s p a l) (hT : TI s p) (hg : s 279 p 0 < 4000) (hx : Id s p x) (hb : b = 0 ∨ b = 1) : GL (gth s p x b) p a (l ++ [(b.toNat, Ty s p x)]) := by
  obtain ⟨⟨⟨h1, h2, h3⟩, h4⟩, h5, h6⟩ := h
  have hX := gth_X (x := x) (b := b) hT
  have hK := gth_K (x := x) (b := b) hT
  have e66 : gth s p x b 266 = s 266 := hK.2.2.2.1
  have hpre : ∀ k, a ≤ k → k < s 279 p 0 → gth s p x b 277 p k = s 277 p k ∧ gth s p x b 278 p k = s 278 p k := fun k k0 k1 => hX.2.2.2.2.2.1 k (by omega) k1
  refine ⟨⟨⟨h1, by rw [gth_9]; omega, by rw [gth_9]; omega⟩, fun k k0 k1 => ?_⟩, by rw [gth_9]; simp; omega, ?_⟩
  · rw [gth_9] at k1
    rcases Int.lt_or_le k (s 279 p 0) with z | z
    · obtain ⟨e1, e2⟩ := hpre k k0 z
      rw [e1, e2]
      exact ⟨(h4 k k0 z).1.u hX, (h4 k k0 z).2⟩
    · rw [show k = s 279 p 0 by omega, gth_7, gth_8]
      exact ⟨hx.u hX, hb⟩
  · rw [List.length_append]
    show gps _ p a (l.length + 1) = _
    unfold gps at h6 ⊢
    rw [List.range_succ, List.map_append]
    congr 1
    · rw [← h6, List.length_map, List.length_range]
      refine List.map_congr_left fun k hk => ?_
      have hk := List.mem_range.mp hk
      obtain ⟨e1, e2⟩ := hpre (a + k) (by omega) (by omega)
      rw [e1, e2, Ty_k hK]
    · simp only [List.map_cons, List.map_nil]
      rw [show a + (l.length : Int) = s 279 p 0 by omega, gth_7, gth_8, Ty_k hK]
theorem GL.ext (h : GL s p a l) (hX : TX p c d s s') (e : s' 279 p 0 = s 279 p 0) : GL s' p a l := by
  obtain ⟨⟨⟨h1, h2, h3⟩, h4⟩, h5, h6⟩ := h
  have hpre := hX.2.2.2.2.2.1
  refine ⟨⟨⟨h1, by omega, by omega⟩, fun k k0 k1 => ?_⟩, by omega, ?_⟩
  · obtain ⟨e1, e2⟩ := hpre k (by omega) (by omega)
    rw [e1, e2]
    exact ⟨(h4 k k0 (by omega)).1.u hX, (h4 k k0 (by omega)).2⟩
  · rw [← h6]
    unfold gps
    rw [List.length_map, List.length_range]
    refine List.map_congr_left fun k hk => ?_
    have hk := List.mem_range.mp hk
    obtain ⟨e1, e2⟩ := hpre (a + k) (by omega) (by omega)
    rw [e1, e2, hX.2.2.2.2.1 _ (h4 (a + k) (by omega) (by omega)).1]
/-- what was gathered becomes a type -/
theorem r_mk (hG : TG s p) (hl : GL s p a l) (hC : Cap s p 1 l.length) (ho : 0 ≤ o ∧ o ≤ 4) (hr : 0 ≤ r ∧ r < 100000) (hL : 400000 < L) (hV : VN s p o r l) (h3 : o ≠ 3) : ∃ v s', f_X21_made L m s p o r a = ra v s' ∧ TX p 1 l.length s s' ∧ Id s' p v ∧ Ty s' p v = ty o.toNat r.toNat l ∧ s' 279 p 0 = a := by
  have := r_made (m := m) hG.1 hG.2.1 hl.1 hl.2.1 hC ho hr hL (by rw [hl.2.2]; exact hV) (fun _ _ _ h => absurd h h3)
  rw [hl.2.2] at this
  unfold rq at this
  rw [if_neg h3] at this
  exact this
theorem VN.of0 (h1 : r < s 242 p 0) (h2 : (l.length : Int) = s 245 p r) : VN s p 0 r l := ⟨fun _ => ⟨h1, h2⟩, fun h => absurd h (by decide), fun h => absurd h (by decide), fun h => absurd h (by decide), fun h => absurd h (by decide), fun h => absurd rfl h⟩
theorem VN.of2 (h : ∀ x ∈ l, x.1 = 0) : VN s p 2 0 l := ⟨fun h => absurd h (by decide), fun h => absurd h (by decide), fun _ => rfl, fun h => absurd h (by decide), fun h => absurd h (by decide), fun _ => h⟩
theorem r_any (hG : TG s p) (hg : s 279 p 0 ≤ 4000) (hC : Cap s p 1 0) (hL : 400000 < L) : Mk p 1 0 s (f_X21_any L m s p) tAny := by
  obtain ⟨v, s', e, hX, h1, h2, h3⟩ := r_mk (m := m) (o := 0) (r := 0) hG (GL.nil ⟨hG.2.2.2, hg⟩) hC (by decide) (by decide) hL (VN.of0 (by have := hG.2.2.1.2.1; omega) (by have := hG.2.2.1.2.2.2 0 (by decide) (by decide); rw [this]; rfl)) (by decide)
  refine ⟨v, s', ?_, hX, h1, h2, h3⟩
  unfold f_X21_any
  rw [cls_of hG.1.1, e]
  rfl
theorem r_of (hG : TG s p) (hg : s 279 p 0 < 4000) (hC : Cap s p 1 1) (hL : 400000 < L) (hx : Id s p x) (hr : r = 6 ∨ r = 7) : Mk p 1 1 s (f_X21_of L m s p r x) (ty 0 r.toNat [(0, Ty s p x)]) := by
  have hX := gth_X (x := x) (b := 0) hG.2.1
  have hG' := hG.u hX (by rw [gth_9]; have := hG.2.2.2; omega)
  have hl := (GL.nil ⟨hG.2.2.2, by omega⟩).push hG.2.1 hg hx (Or.inl rfl)
  obtain ⟨v, s', e, hX2, h1, h2, h3⟩ := r_mk (m := m) (o := 0) (r := r) hG' hl (hC.af (c := 0) (d := 0) hX) (by decide) (by omega) hL (VN.of0 (by have := hG'.2.2.1.2.1; omega) (by have := hG'.2.2.1.2.2.2 r (by omega) (by omega); rw [this, if_pos (by omega)]; rfl)) (by decide)
  refine ⟨v, s', ?_, (hX.tr (by rw [gth_9]; omega) hX2), h1, h2, h3⟩
  unfold f_X21_of
  rw [cls_of hG.1.1, r_gather hG hg (Or.inl rfl), rb_ra, e]
  rfl
end Rh0
