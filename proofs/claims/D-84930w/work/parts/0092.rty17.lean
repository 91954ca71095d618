/-! ===== the reference's types: ahead ===== -/
set_option maxRecDepth 100000
section Rt0
variable {s s' t : Sg} {p a x y i j o r : Int} {L m c d mm : Nat} {l k : List Nat}
theorem r_show (hl : 400000 < L) (hm : 600 ≤ m) (hG : TG s p) (hN : NM s p) (hL : LI s p) (hx : Id s p x) (hd : tdp (Ty s p x) ≤ 600) : ∃ s', f_X21_show L m s p x = ra 0 s' ∧ SL p s s' (tshow (nbf s p) (Ty s p x)) := r_show0 hl (1 * m) s x hG hN hL hx (by omega)
/-- nothing but the line is another -/
def kL : Nat := km [280, 281, 282]
theorem Fk.sub {K K' K2 : Nat} (h : Fk K s s') (e : K' = K ||| K2) : Fk K' s s' := fun k hk => h k (by
  rw [e, Nat.testBit_or] at hk
  simp only [Bool.or_eq_false_iff] at hk
  exact hk.1)
theorem Fk.kt (h : Fk kL s s') : Kt_ s s' := by
  have g := fun k hk => h.g k hk
  exact ⟨⟨g 242 (by decide +kernel), g 245 (by decide +kernel), g 256 (by decide +kernel)⟩, g 257 (by decide +kernel), g 258 (by decide +kernel), g 266 (by decide +kernel), g 267 (by decide +kernel), g 268 (by decide +kernel), g 269 (by decide +kernel), g 270 (by decide +kernel), g 271 (by decide +kernel), g 272 (by decide +kernel), g 273 (by decide +kernel), g 274 (by decide +kernel), g 275 (by decide +kernel), g 276 (by decide +kernel)⟩
theorem TG.kl (hG : TG s p) (h : Fk kL s s') : TG s' p := hG.kt h.kt (h.big (by decide +kernel) (by decide +kernel)) (by rw [h.g 279 (by decide +kernel)]; exact hG.2.2.2)
theorem NM.kl (hN : NM s p) (h : Fk kL s s') : NM s' p ∧ nbf s' p = nbf s p := by
  have g := fun k hk => h.g k hk
  unfold NM nbf at *
  rw [g 1243 (by decide +kernel), g 1244 (by decide +kernel), g 1257 (by decide +kernel), g 1258 (by decide +kernel), g 256 (by decide +kernel), g 242 (by decide +kernel), g 243 (by decide +kernel), g 244 (by decide +kernel), g 257 (by decide +kernel), g 258 (by decide +kernel)]
  exact ⟨hN, rfl⟩
theorem bah_take_nil : bah [] [] = false := rfl
/-- whether a type is shown ahead of another one, as far as the line goes -/
theorem r_isAhead (hl : 400000 < L) (hm : 600 ≤ m) (hG : TG s p) (hN : NM s p) (hL : LI s p) (hx : Id s p x) (hy : Id s p y) (hd : tdp (Ty s p x) ≤ 600) (hd2 : tdp (Ty s p y) ≤ 600) : ∃ s', f_X21_isAhead L m s p x y = ra (if tahead (nbf s p) (4000 - s 281 p 0).toNat (Ty s p x) (Ty s p y) = true then 1 else 0) s' ∧ Fk kL s s' ∧ s' 281 p 0 = s 281 p 0 := by
  have hL' := hL
  obtain ⟨l1, l2, l3, l4⟩ := hL'
  obtain ⟨s1, e1, f1⟩ := r_show hl hm hG hN hL hx hd
  have hL1 := hL.u f1
  have hG1 := hG.sl f1
  unfold f_X21_isAhead
  rw [cls_of hG.1.1, e1, rb_ra]
  generalize hA : tshow (nbf s p) (Ty s p x) = A at *
  obtain ⟨a1, a2, a3, a4, a5⟩ := f1
  have hlen : w3 (s1 281 p 0 - s 281 p 0) = ((A.take (4000 - s 281 p 0).toNat).length : Nat) := by
    rw [a2, w3_i (by omega), List.length_take]; omega
  have hgA : ∀ j : Nat, j < (A.take (4000 - s 281 p 0).toNat).length → s1 280 p (s 281 p 0 + j) = ((A.take (4000 - s 281 p 0).toNat).getD j 0 : Nat) := fun j hj => by
    rw [List.length_take] at hj
    rw [a4 j (by omega) (by omega), List.getD_eq_getElem?_getD, List.getD_eq_getElem?_getD, List.getElem?_take_of_lt (by omega)]
  rw [hlen]
  generalize hAt : A.take (4000 - s 281 p 0).toNat = At at *
  have hbA : ∀ b ∈ At, b < 128 := fun b hb => a5 b (by rw [← hAt] at hb; exact List.mem_of_mem_take hb)
  have hAl : At.length ≤ 4000 - s 281 p 0 := by rw [← hAt, List.length_take]; omega
  obtain ⟨t', e2, g1, g2⟩ := ahead_p21 (m := m) (L := L) (s := s1) (p := p) hG1.1.1 hL1 (w := s 281 p 0) (n := (At.length : Nat)) ⟨l3, by omega, by omega⟩ (fun j j0 j1 => by
    have := hgA j.toNat (by omega)
    rw [show ((j.toNat : Nat) : Int) = j by omega] at this
    rw [this]
    have hlt : j.toNat < At.length := by omega
    rw [List.getD_eq_getElem?_getD, List.getElem?_eq_getElem hlt, Option.getD_some]
    have := hbA _ (List.getElem_mem hlt)
    omega) x y L At.length s1 0 (by omega) (by omega) (by omega) Fk.rf (fun j j0 j1 => by omega)
  rw [e2]
  have hFk1 : Fk kL s (up t' 281 p 0 (s 281 p 0)) := ((a1.sub (K' := kL) (K2 := km [282]) (by decide +kernel)).tr (g1.sub (K' := kL) (K2 := km [280, 281]) (by decide +kernel))).up (by decide +kernel)
  obtain ⟨hN2, hnb2⟩ := hN.kl hFk1
  have hL2 : LI (up t' 281 p 0 (s 281 p 0)) p := by
    unfold LI
    rw [hFk1.g 1280 (by decide +kernel), hFk1.g 1282 (by decide +kernel), up_me]
    exact hL
  have ey := Ty_k (p := p) hFk1.kt y
  obtain ⟨s3, e3, f3⟩ := r_show hl hm (hG.kl hFk1) hN2 hL2 (hy.kt hFk1.kt) (by rw [ey]; exact hd2)
  rw [hnb2, ey] at f3
  rw [e3, rb_ra, pt_b]
  generalize hB : tshow (nbf s p) (Ty s p y) = B at *
  obtain ⟨b1, b2, b3, b4, b5⟩ := f3
  rw [up_me] at b2 b3 b4
  have hlenB : w3 (s3 281 p 0 - s 281 p 0) = ((B.take (4000 - s 281 p 0).toNat).length : Nat) := by
    rw [b2, w3_i (by omega), List.length_take]; omega
  rw [hlenB]
  have hgB : ∀ j : Nat, j < (B.take (4000 - s 281 p 0).toNat).length → s3 280 p (s 281 p 0 + j) = ((B.take (4000 - s 281 p 0).toNat).getD j 0 : Nat) := fun j hj => by
    rw [List.length_take] at hj
    rw [b4 j (by omega) (by omega), List.getD_eq_getElem?_getD, List.getD_eq_getElem?_getD, List.getElem?_take_of_lt (by omega)]
  have hFk3 : Fk kL s (up s3 281 p 0 (s 281 p 0)) := (hFk1.tr (b1.sub (K' := kL) (K2 := km [282]) (by decide +kernel))).up (by decide +kernel)
  have hL3 : LI (up s3 281 p 0 (s 281 p 0)) p := by
    unfold LI
    rw [hFk3.g 1280 (by decide +kernel), hFk3.g 1282 (by decide +kernel), up_me]
    exact hL
  have h82 : s3 282 = t' 282 := by rw [b1.g 282 (by decide +kernel), up_k (by decide)]
  refine ⟨_, ?_, hFk3, up_me⟩
  rw [ahead_p76 hL3 l3 x y L At (B.take (4000 - s 281 p 0).toNat) 0 _ _ (by omega) (by omega) (by omega) (by omega) (by rw [List.length_take]; omega) (by omega) (fun j hj => by
    rw [up_k (by decide), h82, Int.zero_add, g2 j (by omega) (by omega)]
    exact hgA j hj) (fun j hj => by
    rw [up_k (by decide), Int.zero_add]
    exact hgB j hj) (by omega)]
  unfold tahead
  rw [hA, hB, hAt]
end Rt0
