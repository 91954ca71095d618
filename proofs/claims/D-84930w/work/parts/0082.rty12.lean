/-! ===== the reference's types: isSub ===== -/
set_option maxRecDepth 100000
/-- how far down a question of sub goes -/
def rk (a b : Tr) : Nat := 64 * tdp b + (if fo a = 1 then 61 else if fo a = 0 then min (re a) 58 else 60)
/-- what is asked of a question within a question -/
def SubOK (L : Nat) (p : Int) (C : Nat → Sg → List Int → Ro) (mm : Nat) : Prop := ∀ (s : Sg) (x y : Int), TG s p → AB s p → Id s p x → Id s p y → rk (Ty s p x) (Ty s p y) < mm → Cap s p (5 * mm) (4 * mm) → s 279 p 0 + 500 ≤ 4000 → Bt p s (C 0 s [p, x, y]) (tsub (abf s p) (Ty s p x) (Ty s p y))
def WiOK (L : Nat) (p : Int) (C : Nat → Sg → List Int → Ro) (mm : Nat) : Prop := ∀ (s : Sg) (x y : Int) (pre suf pre' suf' : List (Nat × Tr)) (q q' : Nat × Tr), TG s p → AB s p → Id s p x → Id s p y → pps s p x = pre ++ q :: suf → pps s p y = pre' ++ q' :: suf' → pre.length = pre'.length → 64 * tdp q'.2 + 63 < mm → Cap s p (5 * mm) (4 * mm) → s 279 p 0 + 500 ≤ 4000 → Bt p s (C 1 s [p, w3 (s 270 0 x + pre.length), w3 (s 270 0 y + pre.length)]) (twi (abf s p) q q')
theorem i01f : (if (false = true) then (1 : Int) else 0) = 0 := rfl
theorem i01t : (if (true = true) then (1 : Int) else 0) = 1 := rfl
section Rn0
variable {s s' t : Sg} {p a x y i j o r : Int} {L m c d mm : Nat} {ro : Ro} {bb : Bool} {C : Nat → Sg → List Int → Ro}
theorem Bt.yes (h : TG s p) (hr : ro = ra 1 s) (hb : bb = true) : Bt p s ro bb := ⟨s, by rw [hb]; exact hr, h.rf, rfl⟩
theorem Bt.no (h : TG s p) (hr : ro = ra 0 s) (hb : bb = false) : Bt p s ro bb := ⟨s, by rw [hb]; exact hr, h.rf, rfl⟩
theorem Bt.tr (hX : TX p 0 0 s s') (e : s' 279 p 0 = s 279 p 0) (h : Bt p s' ro bb) : Bt p s ro bb := by
  obtain ⟨t, e1, h1, h2⟩ := h
  exact ⟨t, e1, hX.tr (by omega) h1, by omega⟩
theorem TX.pps (hX : TX p c d s t) (hT : TI s p) (hx : Id s p x) : pps t p x = pps s p x := by
  rw [← hT.pa hx, ← hX.1.pa (hx.u hX), hX.2.2.2.2.1 x hx]
theorem Cap.z (h : Cap s p c d) (hX : TX p 0 0 s t) : Cap t p c d := ⟨by have := h.1; have := hX.2.2.1.2; omega, by have := h.2; have := hX.2.2.2.1; omega⟩
/-- a part of a type -/
theorem TI.part (hT : TI s p) (hx : Id s p x) {pre suf : List (Nat × Tr)} {q : Nat × Tr} (e : pps s p x = pre ++ q :: suf) : Id s p (s 274 0 (s 270 0 x + pre.length) / 2) ∧ Ty s p (s 274 0 (s 270 0 x + pre.length) / 2) = q.2 ∧ (pre.length : Int) < s 271 0 x ∧ tdp q.2 < tdp (Ty s p x) ∧ (s 274 0 (s 270 0 x + pre.length) % 2 = q.1) := by
  obtain ⟨k1, k2, k3⟩ := pps_at hT e
  obtain ⟨y1, y2, y3⟩ := (hT.tn2 hx).2.2.2 pre.length (by omega) k1
  refine ⟨y2, k3.symm, k1, ?_, by omega⟩
  rw [hT.eq hx]
  exact tdp_lt (by rw [e]; simp)
theorem sub_p37 (hS : SubOK L p C mm) (hx : Id s p x) (hy : Id s p y) (hG0 : TG s p) (hA : AB s p) (hk : ∀ q ∈ pps s p x, rk q.2 (Ty s p y) < mm) (hC : Cap s p (5 * mm) (4 * mm)) (hg : s 279 p 0 + 500 ≤ 4000) : ∀ (L9 : Nat) (suf pre : List (Nat × Tr)) (cur : Sg), pps s p x = pre ++ suf → TX p 0 0 s cur → cur 279 p 0 = s 279 p 0 → suf.length < L9 → Bt p s (f_X21_isSub_p37 L m C p L9 cur x y pre.length) (suf.all fun q => tsub (abf s p) q.2 (Ty s p y))
  | 0, _, _, _, _, _, _, h => by omega
  | L9 + 1, [], pre, cur, e, hX, h9, _ => by
    have hG := hG0.u hX (by rw [h9]; exact hG0.2.2.2)
    obtain ⟨x1, x2, x3, x4, x5, x6⟩ := hX.id hx
    have hl : (pps s p x).length = pre.length := by rw [e]; simp
    rw [pps_len] at hl
    have := (hG0.2.1.tn2 hx).2.2.1
    unfold f_X21_isSub_p37
    rw [inb_of (hG.bd (hx.u hX)).2.2.2, x4, if_neg (by omega)]
    exact Bt.tr hX h9 (Bt.yes hG rfl rfl)
  | L9 + 1, q :: suf, pre, cur, e, hX, h9, hl => by
    have hG := hG0.u hX (by rw [h9]; exact hG0.2.2.2)
    obtain ⟨x1, x2, x3, x4, x5, x6⟩ := hX.id hx
    have e' : pps cur p x = pre ++ q :: suf := by rw [hX.pps hG0.2.1 hx]; exact e
    obtain ⟨z1, z2, z3, z4, z5⟩ := hG.2.1.part (hx.u hX) e'
    obtain ⟨hA', hab⟩ := hA.u hG0 hX
    have hw := sr_w hG (hx.u hX) (j := pre.length) ⟨by omega, z3⟩
    have hr := hG.2.1.rng (hx.u hX)
    unfold f_X21_isSub_p37
    rw [inb_of (hG.bd (hx.u hX)).2.2.2, if_pos z3, inb_of (hG.bd (hx.u hX)).2.2.1, hw, r_part hG (hx.u hX) ⟨by omega, z3⟩, rb_ra]
    have ey : Ty cur p y = Ty s p y := hX.2.2.2.2.1 y hy
    obtain ⟨t, f1, f2, f3⟩ := hS cur _ y hG hA' z1 (hy.u hX) (by rw [z2, ey]; exact hk q (by rw [e]; simp)) (hC.z hX) (by omega)
    rw [f1, rb_ra, z2, ey, hab]
    have hX2 : TX p 0 0 s t := hX.tr (by omega) f2
    rw [List.all_cons]
    cases hb : tsub (abf s p) q.2 (Ty s p y) with
    | false =>
      rw [i01f, if_pos rfl]
      exact ⟨t, rfl, hX2, by omega⟩
    | true =>
      rw [i01t, if_neg (by decide), Bool.true_and, w3_i (by omega), show ((pre.length : Int) + 1) = ((pre ++ [q]).length : Nat) by simp]
      exact sub_p37 hS hx hy hG0 hA hk hC hg L9 suf (pre ++ [q]) t (by rw [e]; simp) hX2 (by omega) (by simp at hl; omega)
theorem sub_p89 (hS : SubOK L p C mm) (hx : Id s p x) (hy : Id s p y) (hG0 : TG s p) (hA : AB s p) (hk : ∀ q ∈ pps s p y, rk (Ty s p x) q.2 < mm) (hC : Cap s p (5 * mm) (4 * mm)) (hg : s 279 p 0 + 500 ≤ 4000) : ∀ (L9 : Nat) (suf pre : List (Nat × Tr)) (cur : Sg), pps s p y = pre ++ suf → TX p 0 0 s cur → cur 279 p 0 = s 279 p 0 → suf.length < L9 → Bt p s (f_X21_isSub_p89 L m C p L9 cur x y pre.length) (suf.any fun q => tsub (abf s p) (Ty s p x) q.2)
  | 0, _, _, _, _, _, _, h => by omega
  | L9 + 1, [], pre, cur, e, hX, h9, _ => by
    have hG := hG0.u hX (by rw [h9]; exact hG0.2.2.2)
    obtain ⟨x1, x2, x3, x4, x5, x6⟩ := hX.id hy
    have hl : (pps s p y).length = pre.length := by rw [e]; simp
    rw [pps_len] at hl
    have := (hG0.2.1.tn2 hy).2.2.1
    unfold f_X21_isSub_p89
    rw [inb_of (hG.bd (hy.u hX)).2.2.2, x4, if_neg (by omega)]
    exact Bt.tr hX h9 (Bt.no hG rfl rfl)
  | L9 + 1, q :: suf, pre, cur, e, hX, h9, hl => by
    have hG := hG0.u hX (by rw [h9]; exact hG0.2.2.2)
    have e' : pps cur p y = pre ++ q :: suf := by rw [hX.pps hG0.2.1 hy]; exact e
    obtain ⟨z1, z2, z3, z4, z5⟩ := hG.2.1.part (hy.u hX) e'
    obtain ⟨hA', hab⟩ := hA.u hG0 hX
    have hw := sr_w hG (hy.u hX) (j := pre.length) ⟨by omega, z3⟩
    have hr := hG.2.1.rng (hy.u hX)
    unfold f_X21_isSub_p89
    rw [inb_of (hG.bd (hy.u hX)).2.2.2, if_pos z3, inb_of (hG.bd (hy.u hX)).2.2.1, hw, r_part hG (hy.u hX) ⟨by omega, z3⟩, rb_ra]
    have ex : Ty cur p x = Ty s p x := hX.2.2.2.2.1 x hx
    obtain ⟨t, f1, f2, f3⟩ := hS cur x _ hG hA' (hx.u hX) z1 (by rw [z2, ex]; exact hk q (by rw [e]; simp)) (hC.z hX) (by omega)
    rw [f1, rb_ra, z2, ex, hab]
    have hX2 : TX p 0 0 s t := hX.tr (by omega) f2
    rw [List.any_cons]
    cases hb : tsub (abf s p) (Ty s p x) q.2 with
    | true =>
      rw [i01t, if_neg (by decide)]
      exact ⟨t, rfl, hX2, by omega⟩
    | false =>
      rw [i01f, if_pos rfl, Bool.false_or, w3_i (by omega), show ((pre.length : Int) + 1) = ((pre ++ [q]).length : Nat) by simp]
      exact sub_p89 hS hx hy hG0 hA hk hC hg L9 suf (pre ++ [q]) t (by rw [e]; simp) hX2 (by omega) (by simp at hl; omega)
theorem sub_173_0 (hG : TG s p) (hx : Id s p x) {L9 : Nat} : f_X21_isSub_p173 L m C p (L9 + 1) s x y 0 j = ra 0 s := by
  unfold f_X21_isSub_p173
  rw [inb_of (hG.bd hx).2.2.2]
  split
  · rw [if_pos rfl, ck_of (Or.inl rfl)]
  · rw [ck_of (Or.inl rfl)]
theorem sub_p173 (hS : SubOK L p C mm) (hx : Id s p x) (hy : Id s p y) (hG0 : TG s p) (hA : AB s p) (hk : ∀ q ∈ pps s p x, ∀ q' ∈ pps s p y, rk q.2 q'.2 < mm) (hC : Cap s p (5 * mm) (4 * mm)) (hg : s 279 p 0 + 500 ≤ 4000) : ∀ (L9 : Nat) (suf pre suf' pre' : List (Nat × Tr)) (cur : Sg), pps s p x = pre ++ suf → pps s p y = pre' ++ suf' → pre.length = pre'.length → suf.length = suf'.length → TX p 0 0 s cur → cur 279 p 0 = s 279 p 0 → suf.length + 1 < L9 → Bt p s (f_X21_isSub_p173 L m C p L9 cur x y 1 pre.length) (all2 (fun (q : Nat × Tr) q' => tsub (abf s p) q.2 q'.2) suf suf')
  | 0, _, _, _, _, _, _, _, _, _, _, _, h => by omega
  | L9 + 1, [], pre, [], pre', cur, e, e', _, _, hX, h9, _ => by
    have hG := hG0.u hX (by rw [h9]; exact hG0.2.2.2)
    obtain ⟨x1, x2, x3, x4, x5, x6⟩ := hX.id hx
    have hl : (pps s p x).length = pre.length := by rw [e]; simp
    rw [pps_len] at hl
    have := (hG0.2.1.tn2 hx).2.2.1
    unfold f_X21_isSub_p173
    rw [inb_of (hG.bd (hx.u hX)).2.2.2, x4, if_neg (by omega), ck_of (Or.inr rfl)]
    exact Bt.tr hX h9 (Bt.yes hG rfl rfl)
  | L9 + 1, q :: suf, pre, q' :: suf', pre', cur, e, e', hp, hs, hX, h9, hl => by
    have hG := hG0.u hX (by rw [h9]; exact hG0.2.2.2)
    have ex : pps cur p x = pre ++ q :: suf := by rw [hX.pps hG0.2.1 hx]; exact e
    have ey : pps cur p y = pre' ++ q' :: suf' := by rw [hX.pps hG0.2.1 hy]; exact e'
    obtain ⟨z1, z2, z3, z4, z5⟩ := hG.2.1.part (hx.u hX) ex
    obtain ⟨v1, v2, v3, v4, v5⟩ := hG.2.1.part (hy.u hX) ey
    rw [← hp] at v1 v2 v3
    obtain ⟨hA', hab⟩ := hA.u hG0 hX
    have hw := sr_w hG (hx.u hX) (j := pre.length) ⟨by omega, z3⟩
    have hw2 := sr_w hG (hy.u hX) (j := pre.length) ⟨by omega, v3⟩
    have hr := hG.2.1.rng (hx.u hX)
    unfold f_X21_isSub_p173
    rw [inb_of (hG.bd (hx.u hX)).2.2.2, if_pos z3, if_neg (by decide), inb_of (hG.bd (hx.u hX)).2.2.1, hw, r_part hG (hx.u hX) ⟨by omega, z3⟩, rb_ra, inb_of (hG.bd (hy.u hX)).2.2.1, hw2, r_part hG (hy.u hX) ⟨by omega, v3⟩, rb_ra]
    obtain ⟨t, f1, f2, f3⟩ := hS cur _ _ hG hA' z1 v1 (by rw [z2, v2]; exact hk q (by rw [e]; simp) q' (by rw [e']; simp)) (hC.z hX) (by omega)
    rw [f1, rb_ra, z2, v2, hab]
    have hX2 : TX p 0 0 s t := hX.tr (by omega) f2
    show Bt _ _ _ (tsub (abf s p) q.2 q'.2 && all2 _ suf suf')
    cases hb : tsub (abf s p) q.2 q'.2 with
    | false =>
      have hGt := hG0.u hX2 (by rw [f3, h9]; exact hG0.2.2.2)
      obtain ⟨L8, rfl⟩ : ∃ k, L9 = k + 1 := ⟨L9 - 1, by omega⟩
      rw [i01f, sub_173_0 hGt (hx.u hX2)]
      exact ⟨t, rfl, hX2, by omega⟩
    | true =>
      rw [i01t, Bool.true_and, w3_i (by omega), show ((pre.length : Int) + 1) = ((pre ++ [q]).length : Nat) by simp]
      exact sub_p173 hS hx hy hG0 hA hk hC hg L9 suf (pre ++ [q]) suf' (pre' ++ [q']) t (by rw [e]; simp) (by rw [e']; simp) (by simp; omega) (by simp at hs; omega) hX2 (by omega) (by simp at hl; omega)
/-- the loop over pieces; what is behind it where one is not within -/
theorem sub_p265 (hS : WiOK L p C mm) (hx : Id s p x) (hy : Id s p y) (hG0 : TG s p) (hA : AB s p) (hk : ∀ q' ∈ pps s p y, 64 * tdp q'.2 + 63 < mm) (hC : Cap s p (5 * mm) (4 * mm)) (hg : s 279 p 0 + 500 ≤ 4000) {b2 : Bool} (hN : ∀ cur, TX p 0 0 s cur → cur 279 p 0 = s 279 p 0 → Bt p s (f_X21_isSub_p315 L m C p cur x y) b2) : ∀ (L9 : Nat) (suf pre suf' pre' : List (Nat × Tr)) (cur : Sg), pps s p x = pre ++ suf → pps s p y = pre' ++ suf' → pre.length = pre'.length → suf.length = suf'.length → TX p 0 0 s cur → cur 279 p 0 = s 279 p 0 → suf.length + 1 < L9 → Bt p s (f_X21_isSub_p265 L m C p L9 cur x y 1 pre.length) (all2 (twi (abf s p)) suf suf' || b2)
  | 0, _, _, _, _, _, _, _, _, _, _, _, h => by omega
  | L9 + 1, [], pre, [], pre', cur, e, e', _, _, hX, h9, _ => by
    have hG := hG0.u hX (by rw [h9]; exact hG0.2.2.2)
    obtain ⟨x1, x2, x3, x4, x5, x6⟩ := hX.id hx
    have hl : (pps s p x).length = pre.length := by rw [e]; simp
    rw [pps_len] at hl
    have := (hG0.2.1.tn2 hx).2.2.1
    unfold f_X21_isSub_p265
    rw [inb_of (hG.bd (hx.u hX)).2.2.2, x4, if_neg (by omega), if_neg (by decide)]
    exact Bt.tr hX h9 (Bt.yes hG rfl rfl)
  | L9 + 1, q :: suf, pre, q' :: suf', pre', cur, e, e', hp, hs, hX, h9, hl => by
    have hG := hG0.u hX (by rw [h9]; exact hG0.2.2.2)
    have ex : pps cur p x = pre ++ q :: suf := by rw [hX.pps hG0.2.1 hx]; exact e
    have ey : pps cur p y = pre' ++ q' :: suf' := by rw [hX.pps hG0.2.1 hy]; exact e'
    obtain ⟨z1, z2, z3, z4, z5⟩ := hG.2.1.part (hx.u hX) ex
    obtain ⟨hA', hab⟩ := hA.u hG0 hX
    have hr := hG.2.1.rng (hx.u hX)
    unfold f_X21_isSub_p265
    rw [inb_of (hG.bd (hx.u hX)).2.2.2, if_pos z3, if_neg (by decide), inb_of (hG.bd (hx.u hX)).2.2.1, inb_of (hG.bd (hy.u hX)).2.2.1]
    obtain ⟨t, f1, f2, f3⟩ := hS cur x y pre suf pre' suf' q q' hG hA' (hx.u hX) (hy.u hX) ex ey hp (hk q' (by rw [e']; simp)) (hC.z hX) (by omega)
    rw [f1, rb_ra, hab]
    have hX2 : TX p 0 0 s t := hX.tr (by omega) f2
    have hGt := hG0.u hX2 (by rw [f3, h9]; exact hG0.2.2.2)
    show Bt _ _ _ ((twi (abf s p) q q' && all2 _ suf suf') || b2)
    cases hb : twi (abf s p) q q' with
    | false =>
      obtain ⟨L8, rfl⟩ : ∃ k, L9 = k + 1 := ⟨L9 - 1, by omega⟩
      unfold f_X21_isSub_p265
      rw [i01f, inb_of (hGt.bd (hx.u hX2)).2.2.2, Bool.false_and, Bool.false_or]
      have := hN t hX2 (by omega)
      split
      · rw [if_pos rfl, if_pos rfl]; exact this
      · rw [if_pos rfl]; exact this
    | true =>
      rw [i01t, Bool.true_and, w3_i (by omega), show ((pre.length : Int) + 1) = ((pre ++ [q]).length : Nat) by simp]
      exact sub_p265 hS hx hy hG0 hA hk hC hg hN L9 suf (pre ++ [q]) suf' (pre' ++ [q']) t (by rw [e]; simp) (by rw [e']; simp) (by simp; omega) (by simp at hs; omega) hX2 (by omega) (by simp at hl; omega)
end Rn0
