/-! ===== the reference's types: made ===== -/
set_option maxRecDepth 100000
/-- the cells of types are the same -/
def Kt_ (s s' : Sg) : Prop := (s' 242 = s 242 ∧ s' 245 = s 245 ∧ s' 256 = s 256) ∧ s' 257 = s 257 ∧ s' 258 = s 258 ∧ s' 266 = s 266 ∧ s' 267 = s 267 ∧ s' 268 = s 268 ∧ s' 269 = s 269 ∧ s' 270 = s 270 ∧ s' 271 = s 271 ∧ s' 272 = s 272 ∧ s' 273 = s 273 ∧ s' 274 = s 274 ∧ s' 275 = s 275 ∧ s' 276 = s 276
/-- it is answered whether P holds; nothing is another -/
def Bo (r : Ro) (P : Prop) (s : Sg) : Prop := (r = ra 1 s ∧ P) ∨ (r = ra 0 s ∧ ¬ P)
theorem Bo.iff {r : Ro} {P Q : Prop} {s : Sg} (h : Bo r P s) (e : P ↔ Q) : Bo r Q s := by rwa [show P = Q from propext e] at h
theorem Bo.yes {r : Ro} {P : Prop} {s : Sg} (h : r = ra 1 s) (hp : P) : Bo r P s := Or.inl ⟨h, hp⟩
theorem Bo.no {r : Ro} {P : Prop} {s : Sg} (h : r = ra 0 s) (hp : ¬ P) : Bo r P s := Or.inr ⟨h, hp⟩
section Rf0
variable {s s' t : Sg} {p x y i j a o r h v w : Int} {L m n c d c' d' q : Nat}
theorem Tf_k (h : Kt_ s s') : ∀ (f : Nat) (i : Int), Tf s' p f i = Tf s p f i
  | 0, _ => rfl
  | f + 1, i => by
    unfold Tf rc_
    obtain ⟨h0, h1, h2, h3, h4, h5, h6, h7, h8, h9, h10, h11, h12, h13⟩ := h
    rw [h1, h2, h5, h6, h7, h8, h11]
    refine ty_inj.mpr ⟨rfl, rfl, List.map_congr_left fun k _ => ?_⟩
    rw [Tf_k ⟨h0, h1, h2, h3, h4, h5, h6, h7, h8, h9, h10, h11, h12, h13⟩ f]
theorem Ty_k (h : Kt_ s s') (i : Int) : Ty s' p i = Ty s p i := Tf_k h _ _
theorem TI.k (hT : TI s p) (h : Kt_ s s') : TI s' p := by
  obtain ⟨n, t1, t2, t3, t4, t5, t6, t7⟩ := hT
  have eT := Ty_k (p := p) h
  obtain ⟨h0, h1, h2, h3, h4, h5, h6, h7, h8, h9, h10, h11, h12, h13⟩ := h
  have ep : ∀ k, pe s' k = pe s k := fun k => by unfold pe; rw [h7, h8]
  refine ⟨n, by rw [h3]; exact t1, t2, by rw [h4, ep]; exact t3, by rw [h4]; exact t4, fun i hi => ?_, fun b b0 b1 => ?_, fun i j hi hj e => t7 i j hi hj (by rwa [eT, eT] at e)⟩
  · have := t5 i hi
    have e9 : pps s' p i = pps s p i := by
      unfold pps
      rw [h7, h8, h11]
      exact List.map_congr_left fun k _ => by rw [eT]
    unfold TN VN pts at *
    rw [e9, h0.1, h0.2.1, h0.2.2]
    rw [h5, h6, h7, h8, h9, h10, h11, ep, eT]
    exact this
  · rw [h12, bk_u n fun i _ => by rw [h10]]
    exact Chn_u _ _ (fun i _ => by rw [h13]) (t6 b b0 b1)
theorem Kt_.rf : Kt_ s s := ⟨⟨rfl, rfl, rfl⟩, rfl, rfl, rfl, rfl, rfl, rfl, rfl, rfl, rfl, rfl, rfl, rfl, rfl⟩
theorem Kt_.u {k : Nat} (h : Kt_ s t) (hk : k ≠ 242 ∧ k ≠ 245 ∧ k ≠ 256 ∧ k ≠ 257 ∧ k ≠ 258 ∧ (k < 266 ∨ 276 < k)) : Kt_ s (up t k x j v) := by
  obtain ⟨h0, h1, h2, h3, h4, h5, h6, h7, h8, h9, h10, h11, h12, h13⟩ := h
  obtain ⟨g1, g2, g3⟩ := h0
  refine ⟨⟨?_, ?_, ?_⟩, ?_, ?_, ?_, ?_, ?_, ?_, ?_, ?_, ?_, ?_, ?_, ?_, ?_⟩ <;> rw [up_k (by omega)] <;> assumption
theorem TX.k (hT : TI s p) (h : Kt_ s s') (hF : Fk kT s s') (hg : ∀ j, 0 ≤ j → j < s 279 p 0 → s' 277 p j = s 277 p j ∧ s' 278 p j = s 278 p j) : TX p 0 0 s s' := by
  refine ⟨hT.k h, hF, by rw [h.2.2.2.1]; omega, by rw [h.2.2.2.2.1]; omega, fun i _ => Ty_k h i, hg, fun i _ => ?_⟩
  obtain ⟨h0, h1, h2, h3, h4, h5, h6, h7, h8, h9, h10, h11, h12, h13⟩ := h
  rw [h5, h6, h7, h8, h9, h11]
  exact ⟨rfl, rfl, rfl, rfl, rfl, fun _ _ _ => rfl⟩
theorem TI.rng (h : TI s p) (hx : Id s p x) : 0 ≤ s 270 0 x ∧ s 270 0 x + s 271 0 x ≤ s 267 p 0 ∧ s 267 p 0 ≤ 330000 := by
  obtain ⟨n, t1, t2, t3, t4, t5, _⟩ := h
  have hx0 := hx.1; have hx1 := hx.2
  have h1 := pe_le (k := x.toNat) (by omega) t5
  have h2 := pe_le (k := x.toNat + 1) (by omega) t5
  rw [pe_s] at h2
  have h3 := (t5 x.toNat (by omega)).2.2.1
  rw [show ((x.toNat : Nat) : Int) = x by omega] at h2 h3
  omega
theorem isAlike_0 (hL : TL s p) (hx : 0 ≤ x ∧ x < 116000) {L9 : Nat} {o r a k : Int} : f_X21_isAlike_p46 L m p (L9 + 1) s x o r a 0 k = ra 0 s := by
  unfold f_X21_isAlike_p46
  rw [inb_of ⟨hx.1, by rw [hL.2.1.2.2.2.1]; exact hx.2⟩]
  split
  · rw [if_pos rfl, ck_of (Or.inl rfl)]
  · rw [ck_of (Or.inl rfl)]
theorem isAlike_1 (hL : TL s p) (hT : TI s p) (hx : Id s p x) (hG : GA s p a) (hm : s 271 0 x = q) (hq : s 279 p 0 = a + q) : ∀ (L9 e : Nat) (o r k : Int), 0 ≤ k → k + e = q → e + 2 < L9 → Bo (f_X21_isAlike_p46 L m p L9 s x o r a 1 k) (∀ j, k ≤ j → j < q → s 274 0 (s 270 0 x + j) = 2 * s 277 p (a + j) + s 278 p (a + j)) s
  | 0, _, _, _, _, _, _, h => by omega
  | L9 + 1, 0, o, r, k, k0, e, hl => by
    unfold f_X21_isAlike_p46
    have hc := hT.cap
    have hx0 := hx.1; have hx1 := hx.2
    exact Bo.yes (by rw [inb_of ⟨hx.1, by rw [hL.2.1.2.2.2.1]; omega⟩, if_neg (by omega), ck_of (Or.inr rfl)]) (fun j _ _ => by omega)
  | L9 + 1, e + 1, o, r, k, k0, he, hl => by
    have hc := hT.cap
    have hx0 := hx.1; have hx1 := hx.2
    obtain ⟨z1, z2, z3, z4⟩ := hT.tn2 hx
    obtain ⟨y1, y2, y3⟩ := z4 k k0 (by omega)
    have hr := hT.rng hx
    have hg := hG.2 (a + k) (by omega) (by omega)
    have ha0 := hG.1.1
    have ha2 := hG.1.2.2
    have y20 := y2.1; have y21 := y2.2
    unfold f_X21_isAlike_p46
    have hb : 0 ≤ x ∧ x < s (1000 + 270) 0 0 := ⟨hx.1, by rw [hL.2.1.2.2.1]; omega⟩
    have hb2 : 0 ≤ w3 (a + k) ∧ w3 (a + k) < s (1000 + 277) p 0 := by rw [w3_i (by omega), hL.2.2.2.2.1]; omega
    have hb3 : 0 ≤ w3 (a + k) ∧ w3 (a + k) < s (1000 + 278) p 0 := by rw [w3_i (by omega), hL.2.2.2.2.2]; omega
    rw [inb_of ⟨hx.1, by rw [hL.2.1.2.2.2.1]; omega⟩, if_pos (by omega), if_neg (by decide), inb_of hb, w3_i (z := s 270 0 x + k) (by omega), r_partOf hL (by omega) (by omega), rb_ra, inb_of hb2, inb_of hb, w3_i (z := s 270 0 x + k) (by omega), r_belowOf hL (by omega), rb_ra, inb_of hb3, w3_i (z := a + k) (by omega), w3_i (z := k + 1) (by omega)]
    obtain ⟨L8, rfl⟩ : ∃ u, L9 = u + 1 := ⟨L9 - 1, by omega⟩
    have ih := isAlike_1 hL hT hx hG hm hq (L8 + 1) e o r (k + 1) (by omega) (by omega) (by omega)
    rw [isAlike_0 hL ⟨by omega, by omega⟩]
    have hiff : (∀ j, k ≤ j → j < q → s 274 0 (s 270 0 x + j) = 2 * s 277 p (a + j) + s 278 p (a + j)) ↔ (s 274 0 (s 270 0 x + k) = 2 * s 277 p (a + k) + s 278 p (a + k)) ∧ (∀ j, k + 1 ≤ j → j < q → s 274 0 (s 270 0 x + j) = 2 * s 277 p (a + j) + s 278 p (a + j)) := by
      constructor
      · intro h; exact ⟨h k (by omega) (by omega), fun j h1 h2 => h j (by omega) h2⟩
      · rintro ⟨h1, h2⟩ j h3 h4
        rcases Int.lt_or_le k j with z | z
        · exact h2 j (by omega) h4
        · rw [show j = k by omega]; exact h1
    by_cases q1 : s 274 0 (s 270 0 x + k) / 2 = s 277 p (a + k)
    · rw [if_pos q1]
      by_cases q2 : s 274 0 (s 270 0 x + k) % 2 = s 278 p (a + k)
      · rw [if_pos q2]
        refine ih.iff ⟨fun z => hiff.mpr ⟨?_, z⟩, fun z => (hiff.mp z).2⟩
        omega
      · rw [if_neg q2]
        exact Bo.no rfl (fun z => q2 (by have := (hiff.mp z).1; omega))
    · rw [if_neg q1]
      exact Bo.no rfl (fun z => q1 (by have := (hiff.mp z).1; omega))
theorem pts_gin (h0 : 0 ≤ s 271 0 x) : pts s x = gin s p a q ↔ s 271 0 x = q ∧ ∀ j : Int, 0 ≤ j → j < q → s 274 0 (s 270 0 x + j) = 2 * s 277 p (a + j) + s 278 p (a + j) := by
  unfold pts gin
  constructor
  · intro h
    have h1 := congrArg List.length h
    simp at h1
    refine ⟨by omega, fun (j : Int) j0 j1 => ?_⟩
    rw [h1] at h
    have h8 := List.map_inj_left.mp h
    have := h8 j.toNat (List.mem_range.mpr (by omega))
    rwa [show ((j.toNat : Nat) : Int) = j by omega] at this
  · rintro ⟨h1, h2⟩
    rw [h1, show ((q : Int).toNat) = q by omega]
    exact List.map_congr_left fun k hk => h2 k (by omega) (by have := List.mem_range.mp hk; omega)
theorem r_isAlike (hL : TL s p) (hT : TI s p) (hx : Id s p x) (hG : GA s p a) (hq : s 279 p 0 = a + q) (hl : 400000 < L) : Bo (f_X21_isAlike L m s p x o r a) (s 268 0 x = o ∧ s 269 0 x = r ∧ pts s x = gin s p a q) s := by
  have hc := hT.cap
  have hx0 := hx.1; have hx1 := hx.2
  obtain ⟨z1, z2, z3, z4⟩ := hT.tn2 hx
  have ha := hG.1
  obtain ⟨L8, rfl⟩ : ∃ u, L = u + 1 := ⟨L - 1, by omega⟩
  unfold f_X21_isAlike
  rw [cls_of hL.1, inb_of ⟨hx.1, by rw [hL.2.1.1]; omega⟩, inb_of ⟨hx.1, by rw [hL.2.1.2.1]; omega⟩, inb_of ⟨hx.1, by rw [hL.2.1.2.2.2.1]; omega⟩, w3_i (by omega), isAlike_0 hL ⟨by omega, by omega⟩]
  by_cases h1 : s 268 0 x = o
  · rw [if_pos h1]
    by_cases h2 : s 269 0 x = r
    · rw [if_pos h2]
      by_cases h3 : s 271 0 x = q
      · rw [if_pos (by omega)]
        refine (isAlike_1 hL hT hx hG h3 hq (L8 + 1) q o r 0 (by omega) (by omega) (by have := hG.1; omega)).iff ⟨fun z => ⟨h1, h2, (pts_gin z3).mpr ⟨h3, z⟩⟩, fun z => ((pts_gin z3).mp z.2.2).2⟩
      · rw [if_neg (by omega)]
        exact Bo.no rfl (fun z => h3 ((pts_gin z3).mp z.2.2).1)
    · rw [if_neg h2]
      exact Bo.no rfl (fun z => h2 z.2.1)
  · rw [if_neg h1]
    exact Bo.no rfl (fun z => h1 z.1)
end Rf0
