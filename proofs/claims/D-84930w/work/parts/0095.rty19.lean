/-! ===== the reference's types: Unions ===== -/
set_option maxRecDepth 100000
/-- the state of a Union's making: from s on, a where it begins -/
def US (p a : Int) (s t : Sg) : Prop := TY p a 0 0 s t ∧ TG t p ∧ a ≤ t 279 p 0
section Rv0
variable {s s' t : Sg} {p a x y i j o r : Int} {L m c d c' d' mm : Nat} {l k : List Nat} {ro : Ro} {τ : Tr} {F G R : List Int}
theorem us_up {k0 : Nat} {v : Int} (h : US p a s t) (hj : a ≤ j) (hk : k0 = 277 ∨ k0 = 278) : US p a s (up t k0 p j v) := by
  obtain ⟨h1, h2, h3⟩ := h
  have hK : Kt_ t (up t k0 p j v) := Kt_.rf.u (by omega)
  have hF : Fk kU t (up t k0 p j v) := Fk.rf.up (by rcases hk with rfl | rfl <;> decide +kernel)
  have hY := TY.kt (a := a) h2.2.1 hK hF (fun q q0 q1 => by
    rcases hk with rfl | rfl
    · rw [up_j (by omega), up_k (by decide)]; exact ⟨rfl, rfl⟩
    · rw [up_k (by decide), up_j (by omega)]; exact ⟨rfl, rfl⟩) (by rw [up_k (by omega)])
  have e9 : up t k0 p j v 279 = t 279 := up_k (by omega)
  exact ⟨h1.tr hY (Int.le_refl _), h2.yy hY (by rw [e9]; exact h2.2.2.2), by rw [e9]; exact h3⟩
theorem us_9 {v : Int} (h : US p a s t) (hv : a ≤ v) (ha : 0 ≤ a) : US p a s (up t 279 p 0 v) := by
  obtain ⟨h1, h2, h3⟩ := h
  have hK : Kt_ t (up t 279 p 0 v) := Kt_.rf.u (by decide)
  have hY := TY.kt (a := a) h2.2.1 hK (Fk.rf.up (by decide +kernel)) (fun q q0 q1 => by
    rw [up_k (by decide), up_k (by decide)]; exact ⟨rfl, rfl⟩) (by rw [up_k (by decide)])
  exact ⟨h1.tr hY (Int.le_refl _), h2.yy hY (by rw [up_me]; omega), by rw [up_me]; exact hv⟩
theorem us_gth {b : Int} (h : US p a s t) : US p a s (gth t p x b) := by
  obtain ⟨h1, h2, h3⟩ := h
  have hX := (gth_X (x := x) (b := b) h2.2.1).yy h3
  exact ⟨h1.tr hX (Int.le_refl _), h2.yy hX (by rw [gth_9]; have := h2.2.2.2; omega), by rw [gth_9]; omega⟩
theorem gth_o {b q : Int} (h : q ≠ s 279 p 0) : gth s p x b 277 p q = s 277 p q := by unfold gth; rw [up_k (by decide), up_k (by decide), up_j h]
/-- members of a member -/
theorem union_p44 (hG0 : TG s p) (kk : Sg → Int → Int → Int → Ro) (x1 x2 x3 : Int) (hx : Id s p x) : ∀ (L9 : Nat) (suf pre : List (Nat × Tr)) (t : Sg) (F : List Int) (last : Int), pps s p x = pre ++ suf → US p a s t → t 279 p 0 = last + F.length → a ≤ last → RI t p last F → (∀ q ∈ F, Id s p q) → t 279 p 0 + suf.length ≤ 4000 → suf.length < L9 → c3 (x3 + 1) → ∃ t' F', f_X21_union_p44 L m p kk L9 t x1 x2 x3 x pre.length = kk t' x1 x2 (x3 + 1) ∧ US p a s t' ∧ t' 279 p 0 = last + (F ++ F').length ∧ RI t' p last (F ++ F') ∧ (∀ q ∈ F', Id s p q) ∧ F'.map (Ty s p) = suf.map (fun q => q.2) ∧ (∀ q, q < last → t' 277 p q = t 277 p q)
  | 0, _, _, _, _, _, _, _, _, _, _, _, _, h, _ => by omega
  | L9 + 1, [], pre, t, F, last, e, hU, h9, hal, hR, hF, _, _, h3 => by
    have hx' := hU.1.id hx
    have hl : (pps s p x).length = pre.length := by rw [e]; simp
    rw [pps_len] at hl
    have := (hG0.2.1.tn2 hx).2.2.1
    obtain ⟨y1, y2, y3, y4, y5⟩ := hU.1.ids hx
    refine ⟨t, [], ?_, hU, by simpa using h9, by simpa using hR, fun q hq => (nomatch hq), rfl, fun _ _ => rfl⟩
    unfold f_X21_union_p44
    rw [inb_of (hU.2.1.bd hx').2.2.2, y4, if_neg (by omega), w3_i h3]
  | L9 + 1, q :: suf, pre, t, F, last, e, hU, h9, hal, hR, hF, hg, hl, h3 => by
    have hx' := hU.1.id hx
    obtain ⟨y1, y2, y3, y4, y5⟩ := hU.1.ids hx
    obtain ⟨z1, z2, z3, z4, z5⟩ := hG0.2.1.part hx e
    have hr := hG0.2.1.rng hx
    have hw := sr_w hU.2.1 hx' (j := pre.length) ⟨by omega, by rw [y4]; exact z3⟩
    have hp := r_part (L := L) (m := m) hU.2.1 hx' (j := pre.length) ⟨by omega, by rw [y4]; exact z3⟩
    rw [y3] at hw
    rw [y3, y5 _ (by omega) z3] at hp
    simp at hg hl
    unfold f_X21_union_p44
    rw [inb_of (hU.2.1.bd hx').2.2.2, y4, if_pos z3, inb_of (hU.2.1.bd hx').2.2.1, y3, hw, hp, rb_ra, r_gather hU.2.1 (by omega) (Or.inl rfl), rb_ra, w3_i (by omega), show ((pre.length : Int) + 1) = ((pre ++ [q]).length : Nat) by simp]
    obtain ⟨t', F', g1, g2, g3, g4, g5, g6, g7⟩ := union_p44 hG0 kk x1 x2 x3 hx L9 suf (pre ++ [q]) (gth t p (s 274 0 (s 270 0 x + pre.length) / 2) 0) (F ++ [s 274 0 (s 270 0 x + pre.length) / 2]) last (by rw [e]; simp) (us_gth hU) (by rw [gth_9]; simp; omega) hal (RI.snoc (hR.eq fun q' q0 q1 => gth_o (by omega)) (by rw [← h9, gth_7])) (fun q' hq' => by
      rcases List.mem_append.mp hq' with h | h
      · exact hF q' h
      · rw [List.mem_singleton.mp h]; exact z1) (by rw [gth_9]; omega) (by omega) h3
    refine ⟨t', s 274 0 (s 270 0 x + pre.length) / 2 :: F', g1, g2, by rw [g3, List.append_assoc]; rfl, by simpa using g4, fun q' hq' => ?_, by rw [List.map_cons, List.map_cons, g6, z2], fun q' hq' => ?_⟩
    · rcases List.mem_cons.mp hq' with h | h
      · rw [h]; exact z1
      · exact g5 q' h
    · rw [g7 q' hq', gth_o (by omega)]
/-- members of members -/
theorem union_p7 (hG0 : TG s p) {e9 : Int} : ∀ (L9 : Nat) (suf : List Int) (k : Int) (t : Sg) (F : List Int), RI s p k suf → k + suf.length = e9 → a ≤ k → 0 ≤ a → (∀ q ∈ suf, Id s p q) → US p a s t → t 279 p 0 = e9 + F.length → RI t p e9 F → (∀ q ∈ F, Id s p q) → (∀ q, a ≤ q → q < e9 → t 277 p q = s 277 p q) → e9 + F.length + (flatu (suf.map (Ty s p))).length ≤ 4000 → suf.length < L9 → 400000 < L → ∃ t' F', f_X21_union_p7 L m p L9 t a e9 k = f_X21_union_p98 L m p L t' a e9 (t' 279 p 0) 0 e9 ∧ US p a s t' ∧ t' 279 p 0 = e9 + F'.length ∧ RI t' p e9 F' ∧ (∀ q ∈ F', Id s p q) ∧ F'.map (Ty s p) = F.map (Ty s p) ++ flatu (suf.map (Ty s p)) ∧ (∀ q, a ≤ q → q < e9 → t' 277 p q = s 277 p q)
  | 0, _, _, _, _, _, _, _, _, _, _, _, _, _, _, _, h, _ => by omega
  | L9 + 1, [], k, t, F, _, hk, _, _, _, hU, h9, hR, hF, hs, _, _, _ => by
    refine ⟨t, F, ?_, hU, h9, hR, hF, by simp [flatu], hs⟩
    unfold f_X21_union_p7
    rw [if_neg (by simp at hk; omega)]
  | L9 + 1, x :: suf, k, t, F, hsuf, hk, hak, ha, hids, hU, h9, hR, hF, hs, hg, hl, hL => by
    simp at hk hl
    have ex : t 277 p k = x := by
      rw [hs k hak (by omega)]
      have := hsuf 0 (by simp)
      simpa using this
    have hx := hids x List.mem_cons_self
    have hx' := hU.1.id hx
    obtain ⟨y1, y2, y3, y4, y5⟩ := hU.1.ids hx
    have hfl : (flatu ((x :: suf).map (Ty s p))).length = (flat1 (Ty s p x)).length + (flatu (suf.map (Ty s p))).length := by simp [flatu]
    have hfl2 : flatu ((x :: suf).map (Ty s p)) = flat1 (Ty s p x) ++ flatu (suf.map (Ty s p)) := by simp [flatu]
    rw [hfl] at hg
    have l77 : t (1000 + 277) p 0 = 4000 := hU.2.1.1.2.2.2.2.1
    have z := hG0.2.1.tn2 hx
    have hfo := hG0.2.1.fo hx
    have hsuf' : RI s p (k + 1) suf := fun i hi => by
      have := hsuf (i + 1) (by simp; omega)
      rw [show k + 1 + (i : Int) = k + ((i + 1 : Nat) : Int) by omega, this]; rfl
    unfold f_X21_union_p7
    rw [if_pos (by omega), inb_of ⟨by omega, by rw [l77]; omega⟩, ex, inb_of (hU.2.1.bd hx').1, y1]
    by_cases h1 : s 268 0 x = 1
    · rw [if_pos h1]
      have e1 : flat1 (Ty s p x) = (pps s p x).map fun q => q.2 := by unfold flat1; rw [if_pos (by omega), hG0.2.1.pa hx]
      rw [e1, List.length_map] at hg
      obtain ⟨t', F', g1, g2, g3, g4, g5, g6, g7⟩ := union_p44 (m := m) (L := L) hG0 (fun s9 y0 y1 y2 => f_X21_union_p7 L m p L9 s9 y0 y1 y2) a e9 k hx L (pps s p x) [] t F e9 rfl hU h9 (by omega) hR hF (by omega) (by rw [pps_len]; have := hG0.2.1.rng hx; omega) ⟨by omega, by omega⟩
      show ∃ t' F', f_X21_union_p44 L m p _ L t a e9 k x ((([] : List (Nat × Tr)).length : Nat) : Int) = _ ∧ _
      rw [g1]
      obtain ⟨t2, F2, k1, k2, k3, k4, k5, k6, k7⟩ := union_p7 hG0 L9 suf (k + 1) t' (F ++ F') hsuf' (by omega) (by omega) ha (fun q hq => hids q (List.mem_cons_of_mem _ hq)) g2 g3 g4 (fun q hq => (List.mem_append.mp hq).elim (hF q) (g5 q)) (fun q q0 q1 => by rw [g7 q q1, hs q q0 q1]) (by
        have : F'.length = (pps s p x).length := by have := congrArg List.length g6; simpa using this
        rw [List.length_append]; omega) (by omega) hL
      exact ⟨t2, F2, k1, k2, k3, k4, k5, by rw [k6, hfl2, e1, List.map_append, g6, List.append_assoc], k7⟩
    · rw [if_neg h1]
      have e1 : flat1 (Ty s p x) = [Ty s p x] := by unfold flat1; rw [if_neg (by omega)]
      rw [e1] at hg
      simp at hg
      rw [r_gather hU.2.1 (by omega) (Or.inl rfl), rb_ra, w3_i (by omega)]
      obtain ⟨t2, F2, k1, k2, k3, k4, k5, k6, k7⟩ := union_p7 hG0 L9 suf (k + 1) (gth t p x 0) (F ++ [x]) hsuf' (by omega) (by omega) ha (fun q hq => hids q (List.mem_cons_of_mem _ hq)) (us_gth hU) (by rw [gth_9]; simp; omega) (RI.snoc (hR.eq fun q' q0 q1 => gth_o (by omega)) (by rw [← h9, gth_7])) (fun q hq => (List.mem_append.mp hq).elim (hF q) (fun h => by rw [List.mem_singleton.mp h]; exact hx)) (fun q q0 q1 => by rw [gth_o (by omega), hs q q0 q1]) (by simp; omega) (by omega) hL
      exact ⟨t2, F2, k1, k2, k3, k4, k5, by rw [k6, hfl2, e1]; simp, k7⟩
end Rv0
