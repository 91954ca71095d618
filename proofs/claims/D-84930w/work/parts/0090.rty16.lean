/-! ===== the reference's types: shown, ahead ===== -/
set_option maxRecDepth 100000
section Rs0
variable {s s' t : Sg} {p a x y i j o r : Int} {L m c d mm : Nat} {l k : List Nat} {C : Nat → Sg → List Int → Ro}
theorem show_p78 (hl : 400000 < L) (hC : ShOK L m p C mm) (hG0 : TG s p) (hN : NM s p) (hL : LI s p) (hx : Id s p x) (hd : ∀ q ∈ pps s p x, tdp q.2 ≤ mm) (h3 : s 268 0 x ≠ 3) (x2 : Int) (h2 : x2 = if s 268 0 x = 2 then 1 else 0) (cur : Sg) (hS : SL p s cur (if s 268 0 x = 0 then nbf s p (s 269 0 x).toNat else [])) : ∃ s', f_X21_show_p78 L m C p cur x x2 = ra 0 s' ∧ SL p s s' (tshow (nbf s p) (Ty s p x)) := by
  have hK := hS.kt
  have h68 : ∀ {u : Sg}, Kt_ s u → u 268 0 x = s 268 0 x := fun h => by rw [h.2.2.2.2.2.1]
  have h71 : ∀ {u : Sg}, Kt_ s u → u 271 0 x = s 271 0 x := fun h => by rw [h.2.2.2.2.2.2.2.2.1]
  have hb := fun {u : Sg} {ll} (hS : SL p s u ll) => (hG0.sl hS).bd (hx.kt hS.kt)
  have z := hG0.2.1.tn2 hx
  have hrr : rr s p x = (s 269 0 x).toNat := by unfold rr; rw [if_neg h3]
  have hx2 : x2 = 0 ∨ x2 = 1 := by rw [h2]; exact ite01
  have e0 : tshow (nbf s p) (Ty s p x) = if s 268 0 x = 0 ∧ s 271 0 x = 0 then nbf s p (s 269 0 x).toNat else (if s 268 0 x = 0 then nbf s p (s 269 0 x).toNat else if s 268 0 x = 1 then [85, 110, 105, 111, 110] else []) ++ (if x2 = 1 then 40 else 123) :: (cms ((pps s p x).map fun q => (q.1, tshow (nbf s p) q.2)) ++ [if x2 = 1 then 41 else 125]) := by
    rw [hG0.2.1.eq hx, tshow_ty, hrr, if_neg (by omega), pps_len]
    have q0 : ((s 268 0 x).toNat = 0) = (s 268 0 x = 0) := propext ⟨fun h => by omega, fun h => by omega⟩
    have q1 : ((s 268 0 x).toNat = 1) = (s 268 0 x = 1) := propext ⟨fun h => by omega, fun h => by omega⟩
    have q2 : ((s 268 0 x).toNat = 2) = (x2 = 1) := propext ⟨fun h => by rw [h2, if_pos (by omega)], fun h => by rw [h2] at h; split at h; omega; omega⟩
    have q3 : ((s 271 0 x).toNat = 0) = (s 271 0 x = 0) := propext ⟨fun h => by omega, fun h => by omega⟩
    simp only [q0, q1, q2, q3]
  have fin : ∀ (u : Sg) (l0 : List Nat), SL p s u l0 → (s 268 0 x = 0 ∧ s 271 0 x = 0 → False) → l0 = (if s 268 0 x = 0 then nbf s p (s 269 0 x).toNat else if s 268 0 x = 1 then [85, 110, 105, 111, 110] else []) → ∃ s', (if x2 = 0 then (rb (f_X21_sign L m u p 123) fun _ s33 => f_X21_show_p154 L m C p L s33 x x2 0) else (rb (f_X21_sign L m u p 40) fun _ s36 => f_X21_show_p154 L m C p L s36 x x2 0)) = ra 0 s' ∧ SL p s s' (tshow (nbf s p) (Ty s p x)) := fun u l0 hS1 hne hl0 => by
    rw [e0, if_neg (fun z => hne z), ← hl0]
    have lp := fun (v : Sg) (b : Nat) (hSv : SL p s v (l0 ++ [b])) => show_p154 (m := m) hl hC hG0 hN hL hx hd x2 hx2 L (pps s p x) [] v (l0 ++ [b]) rfl (by simpa [cms] using hSv) (by rw [pps_len]; have := hG0.2.1.rng hx; omega)
    rcases hx2 with h | h
    · obtain ⟨t, e1, f1⟩ := hS1.step (L := L) (m := m) hL (b := 123) (by decide) hG0.1.1
      rw [if_pos h, show (123 : Int) = ((123 : Nat) : Int) from rfl, e1, rb_ra]
      obtain ⟨t2, e2, f2⟩ := lp t 123 f1
      refine ⟨t2, e2, ?_⟩
      rw [if_neg (by omega)]
      rw [if_neg (by omega)] at f2 ⊢
      simpa [List.append_assoc] using f2
    · obtain ⟨t, e1, f1⟩ := hS1.step (L := L) (m := m) hL (b := 40) (by decide) hG0.1.1
      rw [if_neg (by omega), show (40 : Int) = ((40 : Nat) : Int) from rfl, e1, rb_ra]
      obtain ⟨t2, e2, f2⟩ := lp t 40 f1
      refine ⟨t2, e2, ?_⟩
      rw [if_pos h]
      rw [if_pos h] at f2 ⊢
      simpa [List.append_assoc] using f2
  unfold f_X21_show_p78
  rw [inb_of (hb hS).1, h68 hK]
  by_cases h1 : s 268 0 x = 1
  · rw [if_pos h1]
    rw [if_neg (by omega)] at hS
    obtain ⟨t1, e1, f1⟩ := hS.step (L := L) (m := m) hL (b := 85) (by decide) hG0.1.1
    obtain ⟨t2, e2, f2⟩ := f1.step (L := L) (m := m) hL (b := 110) (by decide) hG0.1.1
    obtain ⟨t3, e3, f3⟩ := f2.step (L := L) (m := m) hL (b := 105) (by decide) hG0.1.1
    obtain ⟨t4, e4, f4⟩ := f3.step (L := L) (m := m) hL (b := 111) (by decide) hG0.1.1
    obtain ⟨t5, e5, f5⟩ := f4.step (L := L) (m := m) hL (b := 110) (by decide) hG0.1.1
    rw [show (85 : Int) = ((85 : Nat) : Int) from rfl, e1, rb_ra, show (110 : Int) = ((110 : Nat) : Int) from rfl, e2, rb_ra, show (105 : Int) = ((105 : Nat) : Int) from rfl, e3, rb_ra, show (111 : Int) = ((111 : Nat) : Int) from rfl, e4, rb_ra, e5, rb_ra, inb_of (hb f5).1, h68 f5.kt, if_neg (by omega)]
    exact fin t5 _ f5 (fun z => by omega) (by rw [if_neg (by omega), if_pos h1]; rfl)
  · rw [if_neg h1, inb_of (hb hS).1]
    by_cases h00 : s 268 0 x = 0
    · rw [if_pos h00, inb_of (hb hS).2.2.2, h71 hK]
      by_cases h01 : s 271 0 x = 0
      · rw [if_pos h01, e0, if_pos ⟨h00, h01⟩]
        rw [if_pos h00] at hS
        exact ⟨cur, rfl, hS⟩
      · rw [if_neg h01]
        exact fin cur _ hS (fun z => h01 z.2) (by rw [if_pos h00, if_pos h00])
    · rw [if_neg h00]
      exact fin cur _ hS (fun z => h00 z.1) (by rw [if_neg h00, if_neg h00, if_neg h1])
theorem r_show0 (hl : 400000 < L) : ∀ mm, ShOK L m p (FX21_show L m mm) mm
  | 0 => fun s x hG _ _ hx hd => by rw [hG.2.1.eq hx, tdp_ty] at hd; omega
  | mm + 1 => fun s x hG hN hL hx hd => by
    show ∃ s', b_X21_show L m (FX21_show L m mm) s p x = ra 0 s' ∧ _
    have hb := hG.bd hx
    have z := hG.2.1.tn2 hx
    have hd' : ∀ q ∈ pps s p x, tdp q.2 ≤ mm := fun q hq => by
      have := tdp_lt (o := (s 268 0 x).toNat) (r := rr s p x) hq
      rw [← hG.2.1.eq hx] at this
      omega
    unfold b_X21_show
    rw [cls_of hG.1.1, inb_of hb.1]
    by_cases h3 : s 268 0 x = 3
    · rw [if_pos h3]
      obtain ⟨t1, e1, f1⟩ := r_sign (L := L) (m := m) hG.1.1 hL (b := 35) (by decide)
      have hvn := (hG.2.1.vn hx).2.2.2.1 h3
      rw [show (35 : Int) = ((35 : Nat) : Int) from rfl, e1, rb_ra, inb_of ((hG.sl f1).bd (hx.kt f1.kt)).2.1]
      have h69 : t1 269 0 x = s 269 0 x := by rw [f1.kt.2.2.2.2.2.2.1]
      have h57 : t1 257 = s 257 := f1.kt.2.1
      have h58 : t1 258 = s 258 := f1.kt.2.2.1
      obtain ⟨q1, q2, q3, q4⟩ := hN
      have hn := q4 (s 269 0 x) (by omega) hvn.1
      obtain ⟨t2, e2, f2⟩ := r_letters (L := L) (m := m) (s := t1) (p := p) (x := s 257 p (s 269 0 x)) (y := s 258 p (s 269 0 x)) ((hG.sl f1).1.1) hn.1 hn.2 (by omega) (hL.u f1)
      have l57 : t1 (1000 + 257) = s 1257 := f1.1.g (1000 + 257) (by decide +kernel)
      have l58 : t1 (1000 + 258) = s 1258 := f1.1.g (1000 + 258) (by decide +kernel)
      unfold f_X21_showFunction
      rw [cls_of (hG.sl f1).1.1, h69, inb_of ⟨by omega, by rw [l58, q1.2.2.2]; omega⟩, inb_of ⟨by omega, by rw [l57, q1.2.2.1]; omega⟩, h57, h58, e2, rb_ra]
      refine ⟨t2, rfl, ?_⟩
      have := f1.tr f2 hL
      rw [hG.2.1.eq hx, tshow_ty, if_pos (by omega)]
      have er : rr s p x = (s 258 p (s 269 0 x)).toNat * 2 ^ 64 + (s 257 p (s 269 0 x)).toNat := by unfold rr rc_; rw [if_pos h3]
      have hk := hn.1.1
      unfold ltc
      rw [er, show ((s 258 p (s 269 0 x)).toNat * 2 ^ 64 + (s 257 p (s 269 0 x)).toNat) / 2 ^ 64 = (s 258 p (s 269 0 x)).toNat by omega, show ((s 258 p (s 269 0 x)).toNat * 2 ^ 64 + (s 257 p (s 269 0 x)).toNat) % 2 ^ 64 = (s 257 p (s 269 0 x)).toNat by omega]
      exact this
    · rw [if_neg h3, inb_of hb.1]
      have hname : s 268 0 x = 0 → ∃ u, (inb s 269 0 x (inb s 244 p (s 269 0 x) (inb s 269 0 x (inb s 243 p (s 269 0 x) (f_X21_letters L m s p (s 244 p (s 269 0 x)) (s 243 p (s 269 0 x))))))) = ra 0 u ∧ SL p s u (nbf s p (s 269 0 x).toNat) := fun h0 => by
        have hvn := (hG.2.1.vn hx).1 h0
        obtain ⟨q1, q2, q3, q4⟩ := hN
        have hn := q3 (s 269 0 x) (by omega) hvn.1
        have hnb := hG.2.2.1.2.1
        rw [inb_of hb.2.1, inb_of ⟨by omega, by show _ < s 1244 p 0; rw [q1.2.1]; omega⟩, inb_of hb.2.1, inb_of ⟨by omega, by show _ < s 1243 p 0; rw [q1.1]; omega⟩]
        obtain ⟨t2, e2, f2⟩ := r_letters (L := L) (m := m) (s := s) (p := p) hG.1.1 hn.1 hn.2 (by omega) hL
        refine ⟨t2, e2, ?_⟩
        unfold nbf
        rw [show (((s 269 0 x).toNat : Nat) : Int) = s 269 0 x by omega]
        exact f2
      have hbb : s 268 0 x = 0 → ((0 ≤ s 269 0 x ∧ s 269 0 x < s (1000 + 244) p 0) ∧ (0 ≤ s 269 0 x ∧ s 269 0 x < s (1000 + 243) p 0)) := fun h0 => by
        have hvn := (hG.2.1.vn hx).1 h0
        have hnb := hG.2.2.1.2.1
        have l44 : s (1000 + 244) p 0 = 450 := hN.1.2.1
        have l43 : s (1000 + 243) p 0 = 450 := hN.1.1
        rw [l44, l43]; omega
      by_cases h2 : s 268 0 x = 2
      · rw [if_pos h2, inb_of hb.1, if_neg (by omega)]
        exact show_p78 hl (r_show0 hl mm) hG hN hL hx hd' h3 1 (by rw [if_pos h2]) s (by rw [if_neg (by omega)]; exact SL.nil hL)
      · rw [if_neg h2, inb_of hb.1]
        by_cases h0 : s 268 0 x = 0
        · rw [if_pos h0]
          obtain ⟨u, e1, f1⟩ := hname h0
          rw [inb_of hb.2.1, inb_of (hbb h0).1, inb_of hb.2.1, inb_of (hbb h0).2] at e1
          rw [inb_of hb.2.1, inb_of (hbb h0).1, inb_of hb.2.1, inb_of (hbb h0).2, e1, rb_ra]
          exact show_p78 hl (r_show0 hl mm) hG hN hL hx hd' h3 0 (by rw [if_neg h2]) u (by rw [if_pos h0]; exact f1)
        · rw [if_neg h0]
          exact show_p78 hl (r_show0 hl mm) hG hN hL hx hd' h3 0 (by rw [if_neg h2]) s (by rw [if_neg h0]; exact SL.nil hL)
/-- bytes are kept aside -/
theorem ahead_p21 (h0 : s 0 p 0 = 1021) (hL : LI s p) {w n : Int} (hw : 0 ≤ w ∧ 0 ≤ n ∧ w + n ≤ 4000) (hb : ∀ j, 0 ≤ j → j < n → 0 ≤ s 280 p (w + j) ∧ s 280 p (w + j) < 128) (x1 x2 : Int) : ∀ (L9 e : Nat) (t : Sg) (k : Int), k + e = n → 0 ≤ k → e < L9 → Fk (km [282]) s t → (∀ j, 0 ≤ j → j < k → t 282 p j = s 280 p (w + j)) → ∃ t', f_X21_isAhead_p21 L m p L9 t x1 x2 w n k = (rb (f_X21_show L m (up t' 281 p 0 w) p x2) fun _ s3 => pt s3 281 p 0 w fun s6 => f_X21_isAhead_p76 L m p L s6 x1 x2 w n (w3 (s3 281 p 0 - w)) 0) ∧ Fk (km [282]) s t' ∧ (∀ j, 0 ≤ j → j < n → t' 282 p j = s 280 p (w + j))
  | 0, e, t, k, _, _, h, _, _ => by omega
  | L9 + 1, 0, t, k, he, hk, _, hF, hc => by
    refine ⟨t, ?_, hF, fun j j0 j1 => hc j j0 (by omega)⟩
    unfold f_X21_isAhead_p21
    rw [if_neg (by omega)]
    rfl
  | L9 + 1, e + 1, t, k, he, hk, hl, hF, hc => by
    have g80 : t 280 = s 280 := hF.g 280 (by decide +kernel)
    have l80 : t (1000 + 280) = s 1280 := hF.g (1000 + 280) (by decide +kernel)
    have l82 : t (1000 + 282) = s 1282 := hF.g (1000 + 282) (by decide +kernel)
    have hbk := hb k hk (by omega)
    unfold f_X21_isAhead_p21
    rw [if_pos (by omega), w3_i (z := w + k) (by omega), inb_of ⟨by omega, by rw [l80, hL.1]; omega⟩, inb_of ⟨hk, by rw [l82, hL.2.1]; omega⟩, pt_b, g80, w1_i (by omega), w3_i (by omega)]
    refine ahead_p21 h0 hL hw hb x1 x2 L9 e _ (k + 1) (by omega) (by omega) (by omega) (hF.up (by decide +kernel)) fun j j0 j1 => ?_
    rw [up_s]
    by_cases q : j = k
    · rw [if_pos q, q]
    · rw [if_neg q]; exact hc j j0 (by omega)
theorem ahead_p76 (hL : LI s p) {w : Int} (hw : 0 ≤ w) (x1 x2 : Int) : ∀ (L9 : Nat) (l k : List Nat) (i n q : Int), 0 ≤ i → n = i + l.length → q = i + k.length → w + n ≤ 4000 → w + q ≤ 4000 → n ≤ 4000 → (∀ j : Nat, j < l.length → s 282 p (i + j) = (l.getD j 0 : Nat)) → (∀ j : Nat, j < k.length → s 280 p (w + (i + j)) = (k.getD j 0 : Nat)) → l.length < L9 → f_X21_isAhead_p76 L m p L9 s x1 x2 w n q i = ra (if bah l k = true then 1 else 0) s
  | 0, _, _, _, _, _, _, _, _, _, _, _, _, _, h => by omega
  | L9 + 1, [], k, i, n, q, hi, hn, hq, _, _, _, _, _, _ => by
    unfold f_X21_isAhead_p76
    rw [if_neg (by simp at hn; omega)]
    cases k with
    | nil => rw [if_neg (by simp at hn hq; omega)]; rfl
    | cons b k => rw [if_pos (by simp at hn hq; omega)]; rfl
  | L9 + 1, a :: l, [], i, n, q, hi, hn, hq, _, _, _, _, _, _ => by
    unfold f_X21_isAhead_p76
    simp at hn hq
    rw [if_pos (by omega), if_neg (by omega), if_neg (by omega)]
    rfl
  | L9 + 1, a :: l, b :: k, i, n, q, hi, hn, hq, h4, h5, h6, hl, hk, h9 => by
    have e1 := hl 0 (by simp)
    have e2 := hk 0 (by simp)
    have e1' : s 282 p i = a := by simpa using e1
    have e2' : s 280 p (w + i) = b := by simpa using e2
    have l80 : s (1000 + 280) p 0 = 4000 := hL.1
    have l82 : s (1000 + 282) p 0 = 4000 := hL.2.1
    have b1 : 0 ≤ i ∧ i < s (1000 + 282) p 0 := ⟨hi, by simp at hn; omega⟩
    have b2 : 0 ≤ w + i ∧ w + i < s (1000 + 280) p 0 := ⟨by omega, by simp at hq; omega⟩
    simp at hn hq h9
    unfold f_X21_isAhead_p76
    rw [if_pos (by omega), if_pos (by omega), w3_i (z := w + i) (by omega), inb_of b1, inb_of b2, e1', e2']
    show _ = ra (if (if a = b then bah l k else decide (a < b)) = true then 1 else 0) s
    by_cases q1 : a = b
    · rw [if_pos (by omega), if_pos q1, w3_i (by omega)]
      exact ahead_p76 hL hw x1 x2 L9 l k (i + 1) n q (by omega) (by omega) (by omega) h4 h5 h6 (fun j hj => by
        have := hl (j + 1) (by simp; omega)
        rw [show i + 1 + (j : Int) = i + ((j + 1 : Nat) : Int) by omega, this]; simp) (fun j hj => by
        have := hk (j + 1) (by simp; omega)
        rw [show w + (i + 1 + (j : Int)) = w + (i + ((j + 1 : Nat) : Int)) by omega, this]; simp) (by omega)
    · rw [if_neg (by omega), if_neg q1, inb_of b1, inb_of b2]
      by_cases q2 : a < b
      · rw [if_pos (by omega), if_pos (by simpa using q2)]
      · rw [if_neg (by omega), if_neg (by simpa using q2)]
end Rs0
