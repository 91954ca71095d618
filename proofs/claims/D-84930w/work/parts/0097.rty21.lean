/-! ===== the reference's types: Unions ===== -/
set_option maxRecDepth 100000
section Rx0
variable {s s' t : Sg} {p a x y i j o r e9 last : Int} {L m c d c' d' mm n : Nat} {l : List Tr} {ro : Ro} {τ : Tr} {F G R : List Int}
/-- those that stay, one after the other -/
theorem union_p98 (hL : 400000 < L) (hm : 600 ≤ m ∧ m ≤ 600) (hA : AB s p) (hG0 : TG s p) (hC : Cap s p 25000 20000) (hF : ∀ q ∈ F, Id s p q) (hd : ∀ q ∈ F, tdp (Ty s p q) ≤ 70) (ha : 0 ≤ a) (he : a ≤ e9) (hla : last = e9 + F.length) (hn : last + F.length + 600 ≤ 4000) :
    ∀ (L9 e k : Nat) (R : List Int) (t : Sg), k + e = F.length → R.length ≤ k → US p a s t → RI t p e9 F → RI t p last R → t 279 p 0 = last + R.length → (∀ q ∈ R, q ∈ F) → e < L9 → ∃ t' R', f_X21_union_p98 L m p L9 t a e9 last R.length (e9 + k) = f_X21_union_p234 L m p L t' a e9 last R'.length 0 ∧ US p a s t' ∧ RI t' p last R' ∧ t' 279 p 0 = last + R'.length ∧ (∀ q ∈ R', q ∈ F) ∧ R'.map (Ty s p) = R.map (Ty s p) ++ stfr (abf s p) (F.map (Ty s p)) k e ∧ R'.length ≤ F.length
  | 0, _, _, _, _, _, _, _, _, _, _, _, h => by omega
  | L9 + 1, 0, k, R, t, hk, hRk, hU, hRF, hR, h9, hm2, _ => by
    refine ⟨t, R, ?_, hU, hR, h9, hm2, by simp [stfr], by omega⟩
    unfold f_X21_union_p98
    rw [if_neg (by omega)]
  | L9 + 1, e + 1, k, R, t, hk, hRk, hU, hRF, hR, h9, hm2, hl => by
    have hkF : k < F.length := by omega
    unfold f_X21_union_p98
    rw [if_pos (by omega)]
    obtain ⟨t1, f1, f2, f3, f4⟩ := union_p110 hL hm hA hG0 hC hF hd ha he hla (fun s9 y0 y1 y2 y3 y4 => f_X21_union_p98 L m p L9 s9 y0 y1 y2 y3 y4) hkF (n := R.length) (by omega) L F.length 0 t (by omega) hU hRF h9 (by omega)
    rw [show e9 + ((0 : Nat) : Int) = e9 by omega] at f1
    rw [f1]
    have hR1 : RI t1 p last R := hR.eq fun z z0 z1 => f4 z (by omega) (by omega)
    have hRF1 : RI t1 p e9 F := hRF.eq fun z z0 z1 => f4 z (by omega) (by omega)
    have eg : goes (abf s p) (F.map (Ty s p)) k = gofr (abf s p) (F.map (Ty s p)) k 0 F.length := by unfold goes; rw [List.length_map]
    have es : stfr (abf s p) (F.map (Ty s p)) k (e + 1) = (if goes (abf s p) (F.map (Ty s p)) k = true then [] else [(F.map (Ty s p)).getD k (lf 0)]) ++ stfr (abf s p) (F.map (Ty s p)) (k + 1) e := rfl
    rw [es, eg, show e9 + (k : Int) + 1 = e9 + ((k + 1 : Nat) : Int) by omega]
    cases hb : gofr (abf s p) (F.map (Ty s p)) k 0 F.length with
    | true =>
      rw [if_pos rfl, if_pos rfl]
      obtain ⟨t', R', g1, g2, g3, g4, g5, g6, g7⟩ := union_p98 hL hm hA hG0 hC hF hd ha he hla hn L9 e (k + 1) R t1 (by omega) (by omega) f2 hRF1 hR1 (by omega) hm2 (by omega)
      exact ⟨t', R', g1, g2, g3, g4, g5, by simpa using g6, g7⟩
    | false =>
      rw [if_neg (by decide), if_neg (by decide)]
      have hU2 := us_9 (us_up (v := F.getD k 0) f2 (j := last + R.length) (by omega) (Or.inl rfl)) (v := last + R.length + 1) (by omega) ha
      obtain ⟨t', R', g1, g2, g3, g4, g5, g6, g7⟩ := union_p98 hL hm hA hG0 hC hF hd ha he hla hn L9 e (k + 1) (R ++ [F.getD k 0]) _ (by omega) (by simp; omega) hU2 (hRF1.eq fun z z0 z1 => by rw [up_k (by decide), up_j (by omega)]) (RI.snoc (hR1.eq fun z z0 z1 => by rw [up_k (by decide), up_j (by omega)]) (by rw [up_k (by decide), up_me])) (by rw [up_me]; simp; omega) (fun q hq => (List.mem_append.mp hq).elim (hm2 q) (fun h => by rw [List.mem_singleton.mp h]; exact getD_mem hkF)) (by omega)
      rw [List.length_append] at g1
      refine ⟨t', R', g1, g2, g3, g4, g5, ?_, g7⟩
      rw [g6, getD_map hkF]; simp
/-- those that stay are put at the begin -/
theorem union_p234 (x3 : Int) (hR0 : a + R.length ≤ last) (ha : 0 ≤ a) (hn : last + R.length ≤ 4000) : ∀ (L9 e k : Nat) (t : Sg), k + e = R.length → US p a s t → RI t p last R → t 279 p 0 = last + R.length → RI t p a (R.take k) → e < L9 → ∃ t', f_X21_union_p234 L m p L9 t a x3 last R.length k = f_X21_union_p268 L m p L t' a x3 last R.length 1 ∧ US p a s t' ∧ RI t' p a R ∧ t' 279 p 0 = last + R.length
  | 0, _, _, _, _, _, _, _, _, h => by omega
  | L9 + 1, 0, k, t, hk, hU, hR, h9, hT, _ => by
    refine ⟨t, ?_, hU, by rw [List.take_of_length_le (by omega)] at hT; exact hT, h9⟩
    unfold f_X21_union_p234
    rw [if_neg (by omega)]
  | L9 + 1, e + 1, k, t, hk, hU, hR, h9, hT, hl => by
    have l77 : t (1000 + 277) p 0 = 4000 := hU.2.1.1.2.2.2.2.1
    have hkR : k < R.length := by omega
    unfold f_X21_union_p234
    rw [if_pos (by omega), w3_i (z := last + k) (by omega), w3_i (z := a + k) (by omega), w3_i (z := (k : Int) + 1) (by omega), inb_of ⟨by omega, by rw [l77]; omega⟩, inb_of ⟨by omega, by rw [l77]; omega⟩, pt_b, hR.at hkR, show (k : Int) + 1 = ((k + 1 : Nat) : Int) by omega]
    have hlen : (R.take k).length = k := by rw [List.length_take]; omega
    refine union_p234 x3 hR0 ha hn L9 e (k + 1) _ (by omega) (us_up hU (by omega) (Or.inl rfl)) (hR.eq fun z z0 z1 => up_j (by omega)) (by rw [up_k (by decide)]; exact h9) ?_ (by omega)
    have : R.take (k + 1) = R.take k ++ [R.getD k 0] := by
      rw [List.take_succ, List.getD_eq_getElem?_getD, List.getElem?_eq_getElem hkR]; rfl
    rw [this]
    exact RI.snoc (hT.eq fun z z0 z1 => up_j (by omega)) (by rw [hlen, up_me])
/-- one is put in where it belongs -/
theorem union_p290 (hL : 400000 < L) (hm : 600 ≤ m ∧ m ≤ 600) (hN : NM s p) (hLI : LI s p) (hF : ∀ q ∈ F, Id s p q) (hd : ∀ q ∈ F, tdp (Ty s p q) ≤ 70) (ha : 0 ≤ a) (kk : Sg → Int → Int → Int → Int → Int → Ro) (x2 x3 : Int) {N k : Nat} (hxF : x ∈ F) (hN4 : a + N ≤ 4000) (hkN : k < N) :
    ∀ (L9 : Nat) (P Q : List Int) (t : Sg), P.length + Q.length = k → US p a s t → RI t p a P → RI t p (a + P.length + 1) Q → (∀ q ∈ P, q ∈ F) → (∀ q ∈ Q, q ∈ F) → (∀ q ∈ Q, tahead (nbf s p) (4000 - s 281 p 0).toNat (Ty s p x) (Ty s p q) = true) → P.length < L9 → ∃ (t' : Sg) (S : List Int), f_X21_union_p290 L m p kk L9 t a x2 x3 N k x P.length = kk t' a x2 x3 N (k + 1) ∧ US p a s t' ∧ RI t' p a S ∧ S.length = k + 1 ∧ (∀ q ∈ S, q ∈ F) ∧ S.map (Ty s p) = insr (tahead (nbf s p) (4000 - s 281 p 0).toNat) (Ty s p x) ((P ++ Q).map (Ty s p)) ∧ t' 279 p 0 = t 279 p 0 ∧ (∀ z, a + k < z → t' 277 p z = t 277 p z)
  | 0, _, _, _, _, _, _, _, _, _, _, h => by omega
  | L9 + 1, P, Q, t, hPQ, hU, hP, hQ, hPF, hQF, hQa, hl => by
    have l77 : ∀ {u : Sg}, US p a s u → u (1000 + 277) p 0 = 4000 := fun h => h.2.1.1.2.2.2.2.1
    have put : (P = [] ∨ ∃ P' y, P = P' ++ [y] ∧ tahead (nbf s p) (4000 - s 281 p 0).toNat (Ty s p x) (Ty s p y) = false) → ∀ u : Sg, US p a s u → (∀ z, a ≤ z → u 277 p z = t 277 p z) → u 279 p 0 = t 279 p 0 → ∃ (t' : Sg) (S : List Int), kk (up u 277 p (a + P.length) x) a x2 x3 N (k + 1) = kk t' a x2 x3 N (k + 1) ∧ US p a s t' ∧ RI t' p a S ∧ S.length = k + 1 ∧ (∀ q ∈ S, q ∈ F) ∧ S.map (Ty s p) = insr (tahead (nbf s p) (4000 - s 281 p 0).toNat) (Ty s p x) ((P ++ Q).map (Ty s p)) ∧ t' 279 p 0 = t 279 p 0 ∧ (∀ z, a + k < z → t' 277 p z = t 277 p z) := fun hst u hUu hu h9 => by
      refine ⟨_, P ++ x :: Q, rfl, us_up hUu (by omega) (Or.inl rfl), ?_, by simp; omega, fun q hq => ?_, ?_, by rw [up_k (by decide)]; exact h9, fun z hz => by rw [up_j (by omega), hu z (by omega)]⟩
      · intro i hi
        rw [List.getD_eq_getElem?_getD]
        by_cases q1 : i < P.length
        · rw [List.getElem?_append_left q1, up_j (by omega), hu _ (by omega), hP.at q1, List.getD_eq_getElem?_getD]
        · rw [List.getElem?_append_right (by omega)]
          by_cases q2 : i = P.length
          · rw [q2, up_me]; simp
          · have q3 : i - P.length = (i - P.length - 1) + 1 := by omega
            rw [q3, List.getElem?_cons_succ, up_j (by omega), hu _ (by omega)]
            have := hQ.at (k := i - P.length - 1) (by simp at hi; omega)
            rw [show a + (P.length : Int) + 1 + ((i - P.length - 1 : Nat) : Int) = a + i by omega] at this
            rw [this, List.getD_eq_getElem?_getD]
      · rcases List.mem_append.mp hq with h | h
        · exact hPF q h
        · rcases List.mem_cons.mp h with h | h
          · rw [h]; exact hxF
          · exact hQF q h
      · rw [List.map_append, List.map_append, List.map_cons]
        refine (insr_stop (fun q hq => ?_) ?_).symm
        · obtain ⟨q', hq', rfl⟩ := List.mem_map.mp hq
          exact hQa q' hq'
        · rcases hst with rfl | ⟨P', y, rfl, hy⟩
          · exact Or.inl rfl
          · exact Or.inr ⟨P'.map (Ty s p), Ty s p y, by simp, hy⟩
    unfold f_X21_union_p290
    by_cases h0 : P.length = 0
    · rw [if_neg (by omega), w3_i (z := a + P.length) (by omega), inb_of ⟨by omega, by rw [l77 hU]; omega⟩, pt_b, w3_i (by omega)]
      exact put (Or.inl (List.length_eq_zero_iff.mp h0)) t hU (fun _ _ => rfl) rfl
    · obtain ⟨P', y, rfl⟩ : ∃ P' y, P = P' ++ [y] := ⟨P.dropLast, P.getLast (fun h => h0 (by rw [h]; rfl)), (List.dropLast_concat_getLast _).symm⟩
      have hlen : (P' ++ [y]).length = P'.length + 1 := by simp
      have ey : t 277 p (a + P'.length) = y := by
        have := hP.at (k := P'.length) (by simp)
        rw [this, List.getD_eq_getElem?_getD, List.getElem?_append_right (Nat.le_refl _)]; simp
      have hyF := hPF y (by simp)
      have hx' := hF x hxF
      have hy' := hF y hyF
      obtain ⟨hNt, hnb⟩ := hN.yy hU.1
      have hLt := hLI.yy hU.1
      obtain ⟨t1, f1, f2, f3⟩ := r_isAhead hL (m := m) (by omega) hU.2.1 hNt hLt (hU.1.id hx') (hU.1.id hy') (by rw [hU.1.ty hx']; have := hd x hxF; omega) (by rw [hU.1.ty hy']; have := hd y hyF; omega)
      rw [hnb, hU.1.ty hx', hU.1.ty hy', hU.1.2.2.2.2.2.2.2] at f1
      have e77 : t1 277 = t 277 := f2.g 277 (by decide +kernel)
      have e79 : t1 279 = t 279 := f2.g 279 (by decide +kernel)
      have hY1 : TY p a 0 0 t t1 := TY.kt hU.2.1.2.1 f2.kt (f2.sub (K2 := kU) (by decide +kernel)) (fun q q0 q1 => by rw [e77, f2.g 278 (by decide +kernel)]; exact ⟨rfl, rfl⟩) f3
      have hU1 : US p a s t1 := ⟨hU.1.tr hY1 (Int.le_refl _), hU.2.1.yy hY1 (by rw [e79]; exact hU.2.1.2.2.2), by rw [e79]; exact hU.2.2⟩
      have hw1 : w3 (w3 (a + ((P' ++ [y]).length : Nat)) - 1) = a + P'.length := by rw [w3_i (z := a + _) (by omega), w3_i (by omega)]; omega
      have hw2 : w3 (a + ((P' ++ [y]).length : Nat)) = a + ((P' ++ [y]).length : Nat) := w3_i (by omega)
      rw [if_pos (by omega), hw1, inb_of ⟨by omega, by rw [l77 hU]; omega⟩, ey, f1, rb_ra, hw2]
      cases hb : tahead (nbf s p) (4000 - s 281 p 0).toNat (Ty s p x) (Ty s p y) with
      | false =>
        rw [i01f, if_pos rfl, inb_of ⟨by omega, by rw [l77 hU1]; omega⟩, pt_b, w3_i (by omega)]
        exact put (Or.inr ⟨P', y, rfl, hb⟩) t1 hU1 (fun z _ => by rw [e77]) (by rw [e79])
      | true =>
        rw [i01t, if_neg (by decide), inb_of ⟨by omega, by rw [l77 hU1]; omega⟩, inb_of ⟨by omega, by rw [l77 hU1]; omega⟩, pt_b, e77, ey, w3_i (by omega), show (((P' ++ [y]).length : Nat) : Int) + -1 = P'.length by omega]
        obtain ⟨t', S, g1, g2, g3, g4, g5, g6, g7, g8⟩ := union_p290 hL hm hN hLI hF hd ha kk x2 x3 hxF hN4 hkN L9 P' (y :: Q) (up t1 277 p (a + ((P' ++ [y]).length : Nat)) y) (by simp; omega) (us_up hU1 (by omega) (Or.inl rfl)) (fun i hi => by
            rw [up_j (by omega), e77, hP.at (k := i) (by omega), List.getD_eq_getElem?_getD, List.getD_eq_getElem?_getD, List.getElem?_append_left hi]) (fun i hi => by
            by_cases q : i = 0
            · rw [q, show a + (P'.length : Int) + 1 + ((0 : Nat) : Int) = a + ((P' ++ [y]).length : Nat) by omega, up_me]; rfl
            · obtain ⟨i', rfl⟩ : ∃ z, i = z + 1 := ⟨i - 1, by omega⟩
              rw [up_j (by omega), e77]
              have := hQ.at (k := i') (by simp at hi; omega)
              rw [show a + (((P' ++ [y]).length : Nat) : Int) + 1 + (i' : Int) = a + (P'.length : Int) + 1 + ((i' + 1 : Nat) : Int) by omega] at this
              rw [this]; rfl) (fun q hq => hPF q (by simp [hq])) (fun q hq => by
            rcases List.mem_cons.mp hq with h | h
            · rw [h]; exact hyF
            · exact hQF q h) (fun q hq => by
            rcases List.mem_cons.mp hq with h | h
            · rw [h]; exact hb
            · exact hQa q h) (by omega)
        refine ⟨t', S, g1, g2, g3, g4, g5, by rw [g6]; simp, by rw [g7, up_k (by decide), e79], fun z hz => by rw [g8 z hz, up_j (by omega), e77]⟩
end Rx0
section Ry0
variable {s s' t : Sg} {p a x y i j o r e9 last : Int} {L m c d c' d' mm n : Nat} {l : List Tr} {ro : Ro} {τ : Tr} {F G R : List Int}
theorem isort_snoc {f : Tr → Tr → Bool} {l : List Tr} {t : Tr} : isort f (l ++ [t]) = insr f t (isort f l) := by unfold isort; rw [List.foldl_append]; rfl
theorem union_p268 (hL : 400000 < L) (hm : 600 ≤ m ∧ m ≤ 600) (hN : NM s p) (hLI : LI s p) (hF : ∀ q ∈ F, Id s p q) (hd : ∀ q ∈ F, tdp (Ty s p q) ≤ 70) (ha : 0 ≤ a) (x2 x3 : Int) (hRF : ∀ q ∈ R, q ∈ F) (hN4 : a + R.length ≤ 4000) :
    ∀ (L9 e k : Nat) (S : List Int) (t : Sg), k + e = R.length → S.length = k → US p a s t → RI t p a S → (∀ z, a + k ≤ z → z < a + R.length → t 277 p z = R.getD (z - a).toNat 0) → (∀ q ∈ S, q ∈ F) → S.map (Ty s p) = isort (tahead (nbf s p) (4000 - s 281 p 0).toNat) ((R.take k).map (Ty s p)) → e < L9 → ∃ t' S', f_X21_union_p268 L m p L9 t a x2 x3 R.length k = f_X21_union_p369 L m p L (up t' 279 p 0 (a + R.length)) a x2 x3 R.length a ∧ US p a s t' ∧ RI t' p a S' ∧ S'.length = R.length ∧ (∀ q ∈ S', q ∈ F) ∧ S'.map (Ty s p) = isort (tahead (nbf s p) (4000 - s 281 p 0).toNat) (R.map (Ty s p))
  | 0, _, _, _, _, _, _, _, _, _, _, _, h => by omega
  | L9 + 1, 0, k, S, t, hk, hS, hU, hR, hz, hSF, hs, _ => by
    refine ⟨t, S, ?_, hU, hR, by omega, hSF, by rw [hs, List.take_of_length_le (by omega)]⟩
    unfold f_X21_union_p268
    rw [if_neg (by omega), pt_b, w3_i (by omega)]
  | L9 + 1, e + 1, k, S, t, hk, hS, hU, hR, hz, hSF, hs, hl => by
    have l77 : t (1000 + 277) p 0 = 4000 := hU.2.1.1.2.2.2.2.1
    have hkR : k < R.length := by omega
    have ex : t 277 p (a + k) = R.getD k 0 := by
      have := hz (a + k) (by omega) (by omega)
      rwa [show (a + (k : Int) - a).toNat = k by omega] at this
    unfold f_X21_union_p268
    rw [if_pos (by omega), w3_i (z := a + k) (by omega), inb_of ⟨by omega, by rw [l77]; omega⟩, ex]
    have hxF := hRF _ (getD_mem hkR)
    obtain ⟨t1, S1, g1, g2, g3, g4, g5, g6, g7, g8⟩ := union_p290 (x := R.getD k 0) hL hm hN hLI hF hd ha (fun s9 y0 y1 y2 y3 y4 => f_X21_union_p268 L m p L9 s9 y0 y1 y2 y3 y4) x2 x3 hxF hN4 hkR L S [] t (by simp; exact hS) hU hR (fun i hi => by simp at hi) hSF (fun q hq => (nomatch hq)) (fun q hq => (nomatch hq)) (by omega)
    rw [hS] at g1
    rw [g1, show (k : Int) + 1 = ((k + 1 : Nat) : Int) by omega]
    refine union_p268 hL hm hN hLI hF hd ha x2 x3 hRF hN4 L9 e (k + 1) S1 t1 (by omega) g4 g2 g3 (fun z z0 z1 => by rw [g8 z (by omega)]; exact hz z (by omega) z1) g5 ?_ (by omega)
    have : R.take (k + 1) = R.take k ++ [R.getD k 0] := by
      rw [List.take_succ, List.getD_eq_getElem?_getD, List.getElem?_eq_getElem hkR]; rfl
    rw [g6, List.append_nil, this, List.map_append, List.map_cons, List.map_nil, isort_snoc, ← hs]
theorem tun1_1 {t : Tr} : tun1 [t] = t := rfl
/-- all that is left becomes a type -/
theorem union_p369 (hL : 400000 < L) (hG0 : TG s p) (hF : ∀ q ∈ F, Id s p q) (hC : Cap s p 1 F.length) (ha : 0 ≤ a) (x2 x3 : Int) (hnu : ∀ q ∈ F, fo (Ty s p q) ≠ 1) (h4 : a + F.length ≤ 4000) :
    ∀ (L9 e : Nat) (k : Int) (t : Sg), k + e = a + F.length → a ≤ k → US p a s t → RI t p a F → t 279 p 0 = a + F.length → (∀ z, a ≤ z → z < k → t 278 p z = 0) → e < L9 → ∃ v s', f_X21_union_p369 L m p L9 t a x2 x3 F.length k = ra v s' ∧ TY p a 1 F.length s s' ∧ Id s' p v ∧ Ty s' p v = tun1 (F.map (Ty s p)) ∧ s' 279 p 0 = a
  | 0, _, _, _, _, _, _, _, _, _, h => by omega
  | L9 + 1, e + 1, k, t, hk, hak, hU, hR, h9, hz, hl => by
    have l78 : t (1000 + 278) p 0 = 4000 := hU.2.1.1.2.2.2.2.2
    unfold f_X21_union_p369
    rw [if_pos (by omega), inb_of ⟨by omega, by rw [l78]; omega⟩, pt_b, w3_i (by omega)]
    refine union_p369 hL hG0 hF hC ha x2 x3 hnu h4 L9 e (k + 1) _ (by omega) (by omega) (us_up hU hak (Or.inr rfl)) (hR.eq fun z z0 z1 => by rw [up_k (by decide)]) (by rw [up_k (by decide)]; exact h9) (fun z z0 z1 => ?_) (by omega)
    rw [up_s]
    by_cases q : z = k
    · rw [if_pos q]
    · rw [if_neg q]; exact hz z z0 (by omega)
  | L9 + 1, 0, k, t, hk, hak, hU, hR, h9, hz, _ => by
    have l77 : t (1000 + 277) p 0 = 4000 := hU.2.1.1.2.2.2.2.1
    unfold f_X21_union_p369
    rw [if_neg (by omega)]
    by_cases h1 : F.length = 1
    · rw [if_pos (by omega), pt_b]
      obtain ⟨v, rfl⟩ : ∃ v, F = [v] := List.length_eq_one_iff.mp h1
      have hU2 := us_9 hU (v := a) (Int.le_refl _) ha
      have e77 : up t 279 p 0 a 277 = t 277 := up_k (by decide)
      have ev : t 277 p a = v := by have := hR.at (k := 0) (by simp); simpa using this
      rw [inb_of ⟨ha, by rw [up_k (by decide), l77]; simp at h4; omega⟩, e77, ev]
      refine ⟨v, _, rfl, hU2.1.wd (by omega) (by omega), hU2.1.id (hF v (by simp)), ?_, up_me⟩
      rw [hU2.1.ty (hF v (by simp))]; rfl
    · rw [if_neg (by omega)]
      have hGL : GL t p a (F.map fun q => (0, Ty s p q)) := by
        refine ⟨⟨⟨ha, by omega, by omega⟩, fun z z0 z1 => ?_⟩, by rw [List.length_map]; exact h9, ?_⟩
        · have := hR.at (k := (z - a).toNat) (by omega)
          rw [show a + ((z - a).toNat : Int) = z by omega] at this
          rw [this]
          exact ⟨hU.1.id (hF _ (getD_mem (by omega))), Or.inl (hz z z0 (by omega))⟩
        · rw [List.length_map]
          unfold gps
          refine List.ext_getElem (by simp) fun i h1 h2 => ?_
          have hi : i < F.length := by simpa using h1
          rw [List.getElem_map, List.getElem_range, List.getElem_map, hR.at hi, hz (a + i) (by omega) (by omega), hU.1.ty (hF _ (getD_mem hi)), List.getD_eq_getElem?_getD, List.getElem?_eq_getElem hi]
          rfl
      have hCt : Cap t p 1 F.length := ⟨by have := hC.1; have := hU.1.2.2.1.2; omega, by have := hC.2; have := hU.1.2.2.2.1; omega⟩
      obtain ⟨v, s', f1, f2, f3, f4, f5⟩ := r_mk (m := m) (o := 1) (r := 0) hU.2.1 hGL (by rw [List.length_map]; exact hCt) (by decide) (by decide) hL ⟨fun h => absurd h (by decide), fun _ => ⟨rfl, fun x hx => by
        obtain ⟨q, hq, rfl⟩ := List.mem_map.mp hx
        exact hnu q hq⟩, fun h => absurd h (by decide), fun h => absurd h (by decide), fun h => absurd h (by decide), fun _ x hx => by
        obtain ⟨q, hq, rfl⟩ := List.mem_map.mp hx
        rfl⟩ (by decide)
      rw [f1, rb_ra]
      refine ⟨v, s', rfl, ?_, f3, ?_, f5⟩
      · have := hU.1.tr (f2.yy hU.2.2) (Int.le_refl _)
        rw [List.length_map] at this
        exact this.wd (by omega) (by omega)
      · rw [f4]
        unfold tun1
        rw [List.length_map, if_neg h1, List.map_map]
        rfl
/-- a Union of what was gathered -/
theorem r_union (hL : 400000 < L) (hm : 600 ≤ m ∧ m ≤ 600) (hG : TG s p) (hA : AB s p) (hN : NM s p) (hLI : LI s p) (hR : RI s p a G) (hGi : ∀ q ∈ G, Id s p q) (hg : s 279 p 0 = a + G.length) (ha : 0 ≤ a) (hd : ∀ q ∈ G, tdp (Ty s p q) ≤ 70) (hC : Cap s p 25000 20000) (h4 : a + G.length + 3 * (flatu (G.map (Ty s p))).length + 600 ≤ 4000) : ∃ v s', f_X21_union L m s p a = ra v s' ∧ TY p a 1 (flatu (G.map (Ty s p))).length s s' ∧ Id s' p v ∧ Ty s' p v = tun (abf s p) (nbf s p) (4000 - s 281 p 0).toNat (G.map (Ty s p)) ∧ s' 279 p 0 = a := by
  have hU0 : US p a s s := ⟨TY.rf hG.2.1, hG, by omega⟩
  unfold f_X21_union
  rw [cls_of hG.1.1, hg]
  obtain ⟨t1, F, f1, f2, f3, f4, f5, f6, f7⟩ := union_p7 (m := m) (e9 := a + G.length) hG L G a s [] hR (by omega) (Int.le_refl _) ha hGi hU0 (by simp; exact hg) (fun i hi => by simp at hi) (fun q hq => (nomatch hq)) (fun _ _ _ => rfl) (by simp; omega) (by omega) hL
  rw [List.map_nil, List.nil_append] at f6
  have hFl : F.length = (flatu (G.map (Ty s p))).length := by rw [← f6, List.length_map]
  have hmem : ∀ q ∈ F, tdp (Ty s p q) ≤ 70 ∧ fo (Ty s p q) ≠ 1 := fun q hq => by
    have h1 : Ty s p q ∈ flatu (G.map (Ty s p)) := by rw [← f6]; exact List.mem_map_of_mem hq
    unfold flatu at h1
    obtain ⟨l, hl, hql⟩ := List.mem_flatten.mp h1
    obtain ⟨τ, hτ, rfl⟩ := List.mem_map.mp hl
    obtain ⟨g, hgG, rfl⟩ := List.mem_map.mp hτ
    have hgi := hGi g hgG
    unfold flat1 at hql
    split at hql
    · next hq1 =>
      rw [hG.2.1.pa hgi] at hql
      obtain ⟨z, hz, hzq⟩ := List.mem_map.mp hql
      have hz2 : tdp z.2 < tdp (Ty s p g) := by rw [hG.2.1.eq hgi]; exact tdp_lt hz
      rw [hG.2.1.fo hgi] at hq1
      have hop : s 268 0 g = 1 := by have := (hG.2.1.tn2 hgi).1; omega
      have := ((hG.2.1.vn hgi).2.1 hop).2 z hz
      rw [← hzq]
      exact ⟨by have := hd g hgG; omega, this⟩
    · next hq1 =>
      rw [List.mem_singleton.mp hql]
      exact ⟨hd g hgG, hq1⟩
  rw [f1, f3]
  obtain ⟨t2, R, g1, g2, g3, g4, g5, g6, g7⟩ := union_p98 (last := a + G.length + F.length) hL hm hA hG hC f5 (fun q hq => (hmem q hq).1) ha (by omega) rfl (by omega) L F.length 0 [] t1 (by omega) (by simp) f2 f4 (fun i hi => by simp at hi) (by simp; omega) (fun q hq => (nomatch hq)) (by omega)
  rw [List.map_nil, List.nil_append] at g6
  rw [show (([] : List Int).length : Int) = 0 from rfl, show a + (G.length : Int) + ((0 : Nat) : Int) = a + G.length by omega] at g1
  rw [g1]
  obtain ⟨t3, h1, h2, h3, h9⟩ := union_p234 (m := m) (L := L) (s := s) (p := p) (R := R) (a := a) (last := a + G.length + F.length) (a + G.length) (by omega) ha (by omega) L R.length 0 t2 (by omega) g2 g3 g4 (fun i hi => by simp at hi) (by omega)
  rw [show ((0 : Nat) : Int) = 0 from rfl] at h1
  rw [h1]
  have fin : ∀ (t4 : Sg) (S : List Int), US p a s t4 → RI t4 p a S → S.length = R.length → (∀ q ∈ S, q ∈ F) → S.map (Ty s p) = isort (tahead (nbf s p) (4000 - s 281 p 0).toNat) (R.map (Ty s p)) → ∃ v s', f_X21_union_p369 L m p L (up t4 279 p 0 (a + R.length)) a (a + G.length) (a + G.length + F.length) R.length a = ra v s' ∧ TY p a 1 (flatu (G.map (Ty s p))).length s s' ∧ Id s' p v ∧ Ty s' p v = tun (abf s p) (nbf s p) (4000 - s 281 p 0).toNat (G.map (Ty s p)) ∧ s' 279 p 0 = a := fun t4 S k1 k2 k3 k4 k5 => by
    have hU5 := us_9 k1 (v := a + R.length) (by omega) ha
    obtain ⟨v, s', q1, q2, q3, q4, q5⟩ := union_p369 (m := m) (F := S) hL hG (fun q hq => f5 q (k4 q hq)) (hC.wd (by omega) (by omega)) ha (a + G.length) (a + G.length + F.length) (fun q hq => (hmem q (k4 q hq)).2) (by omega) L S.length a _ (by omega) (Int.le_refl _) hU5 (k2.eq fun z z0 z1 => by rw [up_k (by decide)]) (by rw [up_me, k3]) (fun z z0 z1 => by omega) (by omega)
    rw [k3] at q1
    refine ⟨v, s', q1, q2.wd (Nat.le_refl _) (by omega), q3, ?_, q5⟩
    rw [q4, k5, g6]
    unfold tun stays
    rw [f6, hFl]
  by_cases hR1 : R.length = 0
  · have eR := List.length_eq_zero_iff.mp hR1
    obtain ⟨L8, rfl⟩ : ∃ z, L = z + 1 := ⟨L - 1, by omega⟩
    have : f_X21_union_p268 (L8 + 1) m p (L8 + 1) t3 a (a + G.length) (a + G.length + F.length) R.length 1 = f_X21_union_p369 (L8 + 1) m p (L8 + 1) (up t3 279 p 0 (a + R.length)) a (a + G.length) (a + G.length + F.length) R.length a := by
      conv => lhs; unfold f_X21_union_p268
      rw [if_neg (by omega), pt_b, w3_i (by omega)]
    rw [this]
    exact fin t3 R h2 h3 rfl g5 (by rw [eR]; rfl)
  · obtain ⟨r0, R', rfl⟩ : ∃ r0 R', R = r0 :: R' := by
      cases R with
      | nil => exact absurd rfl hR1
      | cons r0 R' => exact ⟨r0, R', rfl⟩
    have hl9 : (r0 :: R').length = R'.length + 1 := rfl
    obtain ⟨t4, S, k1, k2, k3, k4, k5, k6⟩ := union_p268 (F := F) hL hm hN hLI f5 (fun q hq => (hmem q hq).1) ha (a + G.length) (a + G.length + F.length) (R := r0 :: R') g5 (by omega) L R'.length 1 [r0] t3 (by simp; omega) rfl h2 (fun i hi => by
      have : i = 0 := by simp at hi; omega
      subst this
      exact h3.at (k := 0) (by simp)) (fun z z0 z1 => by
      have := h3.at (k := (z - a).toNat) (by omega)
      rw [show a + ((z - a).toNat : Int) = z by omega] at this
      exact this) (fun q hq => g5 q (by rw [List.mem_singleton.mp hq]; simp)) rfl (by omega)
    rw [show ((1 : Nat) : Int) = 1 from rfl] at k1
    rw [k1]
    exact fin t4 S k2 k3 k4 k5 k6
end Ry0
