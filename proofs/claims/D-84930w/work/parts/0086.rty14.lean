/-! ===== the reference's types: shown ===== -/
set_option maxRecDepth 100000
theorem I6_nat {z : Int} : ((I6 z).toBitVec.toNat : Int) = z % 18446744073709551616 := by
  unfold I6 Int64.ofInt
  simp only [Int64.toBitVec, BitVec.toNat_ofInt]
  omega
theorem tI6_nat {b : BitVec 64} (h : b.toNat < 9223372036854775808) : (Int64.ofBitVec b).toInt = (b.toNat : Int) := by
  show b.toInt = _
  rw [BitVec.toInt_eq_toNat_cond]
  split <;> omega
theorem an6_255 (x : Int) : an6 x 255 = x % 256 := by
  have e : ((I6 x &&& I6 255).toBitVec.toNat : Int) = x % 256 := by
    rw [Int64.toBitVec_and, BitVec.toNat_and, show (I6 255).toBitVec.toNat = 2 ^ 8 - 1 from rfl, Nat.and_two_pow_sub_one_eq_mod, Int.natCast_emod, I6_nat]
    omega
  unfold an6
  show (Int64.ofBitVec (I6 x &&& I6 255).toBitVec).toInt = _
  rw [tI6_nat (by omega), e]
theorem sr6_k (k : Nat) (hk : k < 63) {x : Int} (h : 0 ≤ x ∧ x < 9223372036854775808) : sr6 x k = x / ((2 ^ k : Nat) : Int) := by
  have e1 : ∀ k : Fin 63, ((I3 (k.val : Int)).toInt64 &&& 63) = Int64.ofNat k.val := by decide +kernel
  unfold sr6
  rw [e1 ⟨k, hk⟩]
  have hk2 : ∀ k : Fin 63, ((Int64.ofNat k.val).toBitVec.smod 64#64).toNat = k.val := by decide +kernel
  show ((I6 x).toBitVec.sshiftRight' ((Int64.ofNat k).toBitVec.smod 64#64)).toInt = _
  rw [BitVec.toInt_sshiftRight', hk2 ⟨k, hk⟩, Int.shiftRight_eq_div_pow]
  have : (I6 x).toBitVec.toInt = x := Int64.toInt_ofInt_of_le (by omega) (by omega)
  rw [this]
/-- signs are put on the line, as far as there is room -/
def SL (p : Int) (s s' : Sg) (l : List Nat) : Prop := Fk (km [280, 281]) s s' ∧ s' 281 p 0 = min 4000 (s 281 p 0 + l.length) ∧ (∀ j, j < s 281 p 0 → s' 280 p j = s 280 p j) ∧ (∀ k : Nat, k < l.length → s 281 p 0 + k < 4000 → s' 280 p (s 281 p 0 + k) = (l.getD k 0 : Nat)) ∧ ∀ b ∈ l, b < 128
/-- the line -/
def LI (s : Sg) (p : Int) : Prop := s 1280 p 0 = 4000 ∧ s 1282 p 0 = 4000 ∧ 0 ≤ s 281 p 0 ∧ s 281 p 0 ≤ 4000
section Rq0
variable {s s' t : Sg} {p a x y i j o r : Int} {L m c d mm : Nat} {l k : List Nat}
theorem SL.nil (h : LI s p) : SL p s s [] := ⟨Fk.rf, by simp; have := h.2.2; omega, fun _ _ => rfl, fun k h => by simp at h, fun b hb => by cases hb⟩
theorem LI.u (h : LI s p) (hS : SL p s s' l) : LI s' p := by
  unfold LI at *
  rw [hS.1.g 1280 (by decide +kernel), hS.1.g 1282 (by decide +kernel), hS.2.1]
  omega
theorem SL.tr (h : SL p s s' l) (h2 : SL p s' t k) (hL : LI s p) : SL p s t (l ++ k) := by
  obtain ⟨a1, a2, a3, a4, a5⟩ := h
  obtain ⟨b1, b2, b3, b4, b5⟩ := h2
  have := hL.2.2
  refine ⟨a1.tr b1, by rw [List.length_append]; omega, fun j hj => by rw [b3 j (by omega), a3 j hj], fun i hi h4 => ?_, fun b hb => (List.mem_append.mp hb).elim (a5 b) (b5 b)⟩
  rw [List.length_append] at hi
  by_cases q : i < l.length
  · rw [b3 _ (by omega), a4 i q h4, List.getD_eq_getElem?_getD, List.getD_eq_getElem?_getD, List.getElem?_append_left q]
  · have := b4 (i - l.length) (by omega) (by omega)
    rw [show s' 281 p 0 + ((i - l.length : Nat) : Int) = s 281 p 0 + i by omega] at this
    rw [this, List.getD_eq_getElem?_getD, List.getD_eq_getElem?_getD, List.getElem?_append_right (by omega)]
theorem r_sign (h0 : s 0 p 0 = 1021) (hL : LI s p) {b : Nat} (hb : b < 128) : ∃ s', f_X21_sign L m s p b = ra 0 s' ∧ SL p s s' [b] := by
  obtain ⟨h1, h2, h3, h4⟩ := hL
  unfold f_X21_sign
  rw [cls_of h0, ck_of ⟨by omega, by omega⟩]
  by_cases q : s 281 p 0 < 4000
  · rw [if_pos (by omega), inb_of ⟨h3, by show _ < s 1280 p 0; omega⟩]
    simp only [pt_b]
    rw [w1_i (z := w1 b) (by rw [w1_i (by omega)]; omega), w1_i (by omega)]
    refine ⟨_, rfl, (Fk.rf.up (by decide +kernel)).up (by decide +kernel), ?_, fun j hj => ?_, fun k hk h5 => ?_, fun c hc => by rw [List.mem_singleton.mp hc]; exact hb⟩
    · rw [up_me, up_k (by decide), w3_i (by omega)]; simp; omega
    · rw [up_k (by decide), up_j (by omega)]
    · have : k = 0 := by simp at hk; exact hk
      subst this
      rw [up_k (by decide)]
      simp [up_s]
  · rw [if_neg (by omega)]
    refine ⟨s, rfl, Fk.rf, by simp; omega, fun _ _ => rfl, fun k _ h5 => by omega, fun c hc => by rw [List.mem_singleton.mp hc]; exact hb⟩
/-- a row of signs, one after the other -/
theorem SL.step (hL : LI s p) (h : SL p s s' l) {b : Nat} (hb : b < 128) (h0 : s 0 p 0 = 1021) : ∃ t, f_X21_sign L m s' p b = ra 0 t ∧ SL p s t (l ++ [b]) := by
  obtain ⟨t, e, h1⟩ := r_sign (L := L) (m := m) (s := s') (p := p) (by rw [h.1.g 0 (by decide +kernel)]; exact h0) (hL.u h) hb
  exact ⟨t, e, h.tr h1 hL⟩
def b8 (z : Nat) (ks : List Nat) : List Nat := (ks.map fun k => z / 2 ^ k % 256).filter fun b => b != 0
def l8 (n : Nat) : List Nat := (List.range n).reverse.map fun i => 8 * i
theorem by8_l8 (z : Nat) : by8 z = b8 z (l8 8) := rfl
theorem l8_s (n : Nat) : l8 (n + 1) = (8 * n) :: l8 n := by simp [l8, List.range_succ]
theorem b8_c (z k : Nat) (ks : List Nat) : b8 z (k :: ks) = (if z / 2 ^ k % 256 = 0 then [] else [z / 2 ^ k % 256]) ++ b8 z ks := by
  unfold b8
  rw [List.map_cons, List.filter_cons]
  by_cases q : z / 2 ^ k % 256 = 0
  · simp [q]
  · simp [q]
/-- a number whose bytes are letters -/
def n8 (z : Int) : Prop := (0 ≤ z ∧ z < 9223372036854775808) ∧ ∀ n : Nat, n < 8 → z.toNat / 2 ^ (8 * n) % 256 < 128
theorem n8_b (h : n8 x) (n : Nat) (hn : n < 8) : an6 (sr6 x ((8 * n : Nat) : Int)) 255 = (x.toNat / 2 ^ (8 * n) % 256 : Nat) := by
  rw [sr6_k (8 * n) (by omega) h.1, an6_255]
  have : ((x.toNat : Nat) : Int) = x := by have := h.1.1; omega
  rw [Int.natCast_emod, Int.natCast_ediv, this]
  rfl
theorem letters_p45 (h0 : s 0 p 0 = 1021) (hx : n8 x) : ∀ (L9 n : Nat) (t : Sg) (y : Int), n ≤ 8 → n < L9 → s 0 p 0 = 1021 → t 0 p 0 = 1021 → LI t p → ∃ t', f_X21_letters_p45 L m p L9 t y x (8 * (n : Int) - 8) = ra 0 t' ∧ SL p t t' (b8 x.toNat (l8 n))
  | 0, n, _, _, _, h, _, _, _ => by omega
  | L9 + 1, 0, t, y, _, _, _, ht, hL => by
    unfold f_X21_letters_p45
    rw [if_pos (by omega)]
    exact ⟨t, rfl, SL.nil hL⟩
  | L9 + 1, n + 1, t, y, h8, hn, hs, ht, hL => by
    unfold f_X21_letters_p45
    have hb := n8_b hx n (by omega)
    have hlt := hx.2 n (by omega)
    rw [if_neg (by omega), show 8 * ((n + 1 : Nat) : Int) - 8 = ((8 * n : Nat) : Int) by omega, hb, l8_s, b8_c, w3_i (z := ((8 * n : Nat) : Int) + -8) (by omega), show ((8 * n : Nat) : Int) + -8 = 8 * (n : Int) - 8 by omega]
    by_cases q : x.toNat / 2 ^ (8 * n) % 256 = 0
    · rw [if_pos q, q, if_pos (by decide)]
      exact letters_p45 h0 hx L9 n t y (by omega) (by omega) hs ht hL
    · rw [if_neg q, if_neg (by unfold cm6; rw [if_pos (by omega)]; decide), w3_i (by omega)]
      obtain ⟨t1, e1, f1⟩ := r_sign (L := L) (m := m) ht hL hlt
      rw [e1, rb_ra]
      obtain ⟨t2, e2, f2⟩ := letters_p45 h0 hx L9 n t1 y (by omega) (by omega) hs (by rw [f1.1.g 0 (by decide +kernel)]; exact ht) (hL.u f1)
      exact ⟨t2, e2, f1.tr f2 hL⟩
theorem letters_p4 (h0 : s 0 p 0 = 1021) (hx : n8 x) (hy : n8 y) (hl : 100 < L) : ∀ (L9 n : Nat) (t : Sg), n ≤ 8 → n < L9 → t 0 p 0 = 1021 → LI t p → ∃ t', f_X21_letters_p4 L m p L9 t y x (8 * (n : Int) - 8) = ra 0 t' ∧ SL p t t' (b8 y.toNat (l8 n) ++ by8 x.toNat)
  | 0, n, _, _, h, _, _ => by omega
  | L9 + 1, 0, t, _, _, ht, hL => by
    unfold f_X21_letters_p4
    rw [if_pos (by omega)]
    exact letters_p45 h0 hx L 8 t y (by omega) (by omega) h0 ht hL
  | L9 + 1, n + 1, t, h8, hn, ht, hL => by
    unfold f_X21_letters_p4
    have hb := n8_b hy n (by omega)
    have hlt := hy.2 n (by omega)
    rw [if_neg (by omega), show 8 * ((n + 1 : Nat) : Int) - 8 = ((8 * n : Nat) : Int) by omega, hb, l8_s, b8_c, w3_i (z := ((8 * n : Nat) : Int) + -8) (by omega), show ((8 * n : Nat) : Int) + -8 = 8 * (n : Int) - 8 by omega]
    by_cases q : y.toNat / 2 ^ (8 * n) % 256 = 0
    · rw [if_pos q, q, if_pos (by decide)]
      exact letters_p4 h0 hx hy hl L9 n t (by omega) (by omega) ht hL
    · rw [if_neg q, if_neg (by unfold cm6; rw [if_pos (by omega)]; decide), w3_i (by omega)]
      obtain ⟨t1, e1, f1⟩ := r_sign (L := L) (m := m) ht hL hlt
      rw [e1, rb_ra]
      obtain ⟨t2, e2, f2⟩ := letters_p4 h0 hx hy hl L9 n t1 (by omega) (by omega) (by rw [f1.1.g 0 (by decide +kernel)]; exact ht) (hL.u f1)
      rw [List.append_assoc]
      exact ⟨t2, e2, f1.tr f2 hL⟩
theorem r_letters (h0 : s 0 p 0 = 1021) (hx : n8 x) (hy : n8 y) (hl : 100 < L) (hL : LI s p) : ∃ t', f_X21_letters L m s p y x = ra 0 t' ∧ SL p s t' (lts y.toNat x.toNat) := by
  unfold f_X21_letters
  rw [cls_of h0]
  exact letters_p4 h0 hx hy hl L 8 s (by omega) (by omega) h0 hL
end Rq0
