/-! ===== the reference's types: Unions ===== -/
set_option maxRecDepth 100000
section Rw0
variable {s s' t : Sg} {p a x y i j o r e9 last : Int} {L m c d c' d' mm n : Nat} {l : List Tr} {ro : Ro} {τ : Tr} {F G R : List Int}
theorem RI.at (h : RI s p j F) {k : Nat} (hk : k < F.length) : s 277 p (j + k) = F.getD k 0 := h k hk
theorem getD_map {k : Nat} (hk : k < F.length) : (F.map (Ty s p)).getD k (lf 0) = Ty s p (F.getD k 0) := by
  rw [List.getD_eq_getElem?_getD, List.getD_eq_getElem?_getD, List.getElem?_map, List.getElem?_eq_getElem hk]; rfl
theorem getD_mem {k : Nat} (hk : k < F.length) : F.getD k 0 ∈ F := by
  rw [List.getD_eq_getElem?_getD, List.getElem?_eq_getElem hk]; exact List.getElem_mem hk
theorem us_x (hU : US p a s t) (hX : TX p 0 0 t s') (h9 : s' 279 p 0 = t 279 p 0) : US p a s s' := by
  obtain ⟨h1, h2, h3⟩ := hU
  have := hX.yy h3
  exact ⟨h1.tr this (Int.le_refl _), h2.u hX (by rw [h9]; exact h2.2.2.2), by omega⟩
/-- a question of sub between members -/
theorem us_sub (hL : 400000 < L) (hm : 600 ≤ m ∧ m ≤ 600) (hA : AB s p) (hG0 : TG s p) (hC : Cap s p 25000 20000) (hF : ∀ q ∈ F, Id s p q) (hd : ∀ q ∈ F, tdp (Ty s p q) ≤ 70) (hU : US p a s t) (hg : t 279 p 0 + 500 ≤ 4000) {k q : Nat} (hk : k < F.length) (hq : q < F.length) : ∃ t', f_X21_isSub L m t p (F.getD k 0) (F.getD q 0) = ra (if tsub (abf s p) ((F.map (Ty s p)).getD k (lf 0)) ((F.map (Ty s p)).getD q (lf 0)) = true then 1 else 0) t' ∧ US p a s t' ∧ t' 279 p 0 = t 279 p 0 ∧ ∀ z, 0 ≤ z → z < t 279 p 0 → t' 277 p z = t 277 p z := by
  obtain ⟨hAt, hab⟩ := hA.yy hU.1
  have h1 := hF _ (getD_mem hk)
  have h2 := hF _ (getD_mem hq)
  have e2 := hU.1.ty h2
  have hCt : Cap t p 25000 20000 := ⟨by have := hC.1; have := hU.1.2.2.1.2; omega, by have := hC.2; have := hU.1.2.2.2.1; omega⟩
  obtain ⟨t', f1, f2, f3⟩ := r_isSub hU.2.1 hAt (hU.1.id h1) (hU.1.id h2) (by rw [e2]; exact hd _ (getD_mem hq)) hCt hg hL hm
  rw [hab, e2, hU.1.ty h1] at f1
  rw [getD_map hk, getD_map hq]
  exact ⟨t', f1, us_x hU f2 f3, f3, fun z z0 z1 => (f2.2.2.2.2.2.1 z z0 z1).1⟩
theorem union_p110 (hL : 400000 < L) (hm : 600 ≤ m ∧ m ≤ 600) (hA : AB s p) (hG0 : TG s p) (hC : Cap s p 25000 20000) (hF : ∀ q ∈ F, Id s p q) (hd : ∀ q ∈ F, tdp (Ty s p q) ≤ 70) (ha : 0 ≤ a) (he : a ≤ e9) (hla : last = e9 + F.length) (kk : Sg → Int → Int → Int → Int → Int → Ro) {k : Nat} (hk : k < F.length) (hn : last + n + 600 ≤ 4000) :
    ∀ (L9 e q : Nat) (t : Sg), q + e = F.length → US p a s t → RI t p e9 F → t 279 p 0 = last + n → e < L9 → ∃ t', f_X21_union_p110 L m p kk L9 t a e9 last n (e9 + k) 0 (e9 + q) = (if gofr (abf s p) (F.map (Ty s p)) k q e = true then kk t' a e9 last n (e9 + k + 1) else kk (up (up t' 277 p (last + n) (F.getD k 0)) 279 p 0 (last + n + 1)) a e9 last (n + 1 : Nat) (e9 + k + 1)) ∧ US p a s t' ∧ t' 279 p 0 = last + n ∧ (∀ z, a ≤ z → z < last + n → t' 277 p z = t 277 p z)
  | 0, _, _, _, _, _, _, _, h => by omega
  | L9 + 1, 0, q, t, hq, hU, hR, h9, _ => by
    have l77 : t (1000 + 277) p 0 = 4000 := hU.2.1.1.2.2.2.2.1
    refine ⟨t, ?_, hU, h9, fun _ _ _ => rfl⟩
    unfold f_X21_union_p110
    rw [if_neg (by omega), if_pos rfl, inb_of ⟨by omega, by rw [l77]; omega⟩, w3_i (z := last + n) (by omega), inb_of ⟨by omega, by rw [l77]; omega⟩]
    simp only [pt_b]
    rw [hR.at hk, w3_i (z := (n : Int) + 1) (by omega), w3_i (by omega), w3_i (by omega), show gofr (abf s p) (F.map (Ty s p)) k q 0 = false from rfl, if_neg (by decide)]
    congr 2
    omega
  | L9 + 1, e + 1, q, t, hq, hU, hR, h9, hl => by
    have l77 : t (1000 + 277) p 0 = 4000 := hU.2.1.1.2.2.2.2.1
    have hb1 : 0 ≤ e9 + (k : Int) ∧ e9 + (k : Int) < t (1000 + 277) p 0 := ⟨by omega, by rw [l77]; omega⟩
    have hb2 : 0 ≤ e9 + (q : Int) ∧ e9 + (q : Int) < t (1000 + 277) p 0 := ⟨by omega, by rw [l77]; omega⟩
    have hqF : q < F.length := by omega
    unfold f_X21_union_p110
    have eg : gofr (abf s p) (F.map (Ty s p)) k q (e + 1) = ((q != k && tsub (abf s p) ((F.map (Ty s p)).getD k (lf 0)) ((F.map (Ty s p)).getD q (lf 0)) && (decide (q < k) || !tsub (abf s p) ((F.map (Ty s p)).getD q (lf 0)) ((F.map (Ty s p)).getD k (lf 0)))) || gofr (abf s p) (F.map (Ty s p)) k (q + 1) e) := rfl
    rw [if_pos (by omega), if_pos rfl, w3_i (z := e9 + (q : Int) + 1) (by omega), show e9 + (q : Int) + 1 = e9 + ((q + 1 : Nat) : Int) by omega]
    have nxt := fun (u : Sg) (hUu : US p a s u) (hRu : RI u p e9 F) (h9u : u 279 p 0 = last + n) => union_p110 hL hm hA hG0 hC hF hd ha he hla kk hk hn L9 e (q + 1) u (by omega) hUu hRu h9u (by omega)
    by_cases hqk : q = k
    · rw [if_pos (by omega)]
      obtain ⟨t', g1, g2, g3, g4⟩ := nxt t hU hR h9
      rw [eg, show (q != k) = false by rw [hqk]; simp, Bool.false_and, Bool.false_and, Bool.false_or]
      exact ⟨t', g1, g2, g3, g4⟩
    rw [if_neg (by omega), inb_of hb1, inb_of hb2, hR.at hk, hR.at hqF]
    obtain ⟨t1, f1, f2, f3, f4⟩ := us_sub (a := a) hL hm hA hG0 hC hF hd hU (by omega) hk hqF
    have hR1 : RI t1 p e9 F := hR.eq fun z z0 z1 => f4 z (by omega) (by omega)
    have eqk : (q != k) = true := by rw [bne_iff_ne]; exact hqk
    rw [f1, rb_ra, eg, eqk, Bool.true_and]
    cases hb : tsub (abf s p) ((F.map (Ty s p)).getD k (lf 0)) ((F.map (Ty s p)).getD q (lf 0)) with
    | false =>
      rw [i01f, if_pos rfl, Bool.false_and, Bool.false_or]
      obtain ⟨t', g1, g2, g3, g4⟩ := nxt t1 f2 hR1 (by omega)
      exact ⟨t', g1, g2, g3, fun z z0 z1 => by rw [g4 z z0 z1, f4 z (by omega) (by omega)]⟩
    | true =>
      rw [i01t, if_neg (by decide), Bool.true_and]
      have stop : ∀ (u : Sg) (qq : Nat) (L8 : Nat), 0 < L8 → US p a s u → u 279 p 0 = last + n → f_X21_union_p110 L m p kk L8 u a e9 last n (e9 + k) 1 (e9 + qq) = kk u a e9 last n (e9 + k + 1) := fun u qq L8 hL8 hUu h9u => by
        obtain ⟨L7, rfl⟩ : ∃ z, L8 = z + 1 := ⟨L8 - 1, by omega⟩
        unfold f_X21_union_p110
        rw [if_neg (show ¬ ((1 : Int) = 0) by decide), if_neg (show ¬ ((1 : Int) = 0) by decide), w3_i (by omega), ite_self]
      by_cases hlt : q < k
      · rw [if_pos (by omega), decide_eq_true hlt, Bool.true_or, Bool.true_or]
        refine ⟨t1, (stop t1 (q + 1) L9 (by omega) f2 (by omega)).trans (if_pos rfl).symm, f2, by omega, fun z z0 z1 => f4 z (by omega) (by omega)⟩
      · have l77' : t1 (1000 + 277) p 0 = 4000 := f2.2.1.1.2.2.2.2.1
        rw [if_neg (by omega), inb_of ⟨by omega, by rw [l77']; omega⟩, inb_of ⟨by omega, by rw [l77']; omega⟩, hR1.at hk, hR1.at hqF, decide_eq_false hlt, Bool.false_or]
        obtain ⟨t2, k1, k2, k3, k4⟩ := us_sub (a := a) hL hm hA hG0 hC hF hd f2 (by omega) hqF hk
        have hR2 : RI t2 p e9 F := hR1.eq fun z z0 z1 => k4 z (by omega) (by omega)
        rw [k1, rb_ra]
        cases hb2' : tsub (abf s p) ((F.map (Ty s p)).getD q (lf 0)) ((F.map (Ty s p)).getD k (lf 0)) with
        | false =>
          rw [i01f, if_pos rfl, Bool.not_false, Bool.true_or]
          refine ⟨t2, (stop t2 (q + 1) L9 (by omega) k2 (by omega)).trans (if_pos rfl).symm, k2, by omega, fun z z0 z1 => by rw [k4 z (by omega) (by omega), f4 z (by omega) (by omega)]⟩
        | true =>
          rw [i01t, if_neg (by decide), Bool.not_true, Bool.false_or]
          obtain ⟨t', g1, g2, g3, g4⟩ := nxt t2 k2 hR2 (by omega)
          exact ⟨t', g1, g2, g3, fun z z0 z1 => by rw [g4 z z0 z1, k4 z (by omega) (by omega), f4 z (by omega) (by omega)]⟩
end Rw0
