/-! ===== the reference's types: shown ===== -/
set_option maxRecDepth 100000
/-- names are letters -/
def NM (s : Sg) (p : Int) : Prop := (s 1243 p 0 = 450 ∧ s 1244 p 0 = 450 ∧ s 1257 p 0 = 1000 ∧ s 1258 p 0 = 1000) ∧ s 256 p 0 ≤ 1000 ∧ (∀ r, 0 ≤ r → r < s 242 p 0 → n8 (s 243 p r) ∧ n8 (s 244 p r)) ∧ (∀ f, 0 ≤ f → f < s 256 p 0 → n8 (s 257 p f) ∧ n8 (s 258 p f))
def nbf (s : Sg) (p : Int) (r : Nat) : List Nat := lts (s 244 p r).toNat (s 243 p r).toNat
theorem cms_snoc {x : Nat × List Nat} : ∀ {l : List (Nat × List Nat)}, cms (l ++ [x]) = cms l ++ (if l.length = 0 then [] else [44]) ++ (pre_ x.1 ++ x.2)
  | [] => by simp [cms]
  | y :: l => by simp [cms]
section Rr0
variable {s s' t : Sg} {p a x y i j o r : Int} {L m c d mm : Nat} {l k : List Nat} {C : Nat → Sg → List Int → Ro}
theorem SL.kt (h : SL p s s' l) : Kt_ s s' := by
  have g := fun k hk => h.1.g k hk
  exact ⟨⟨g 242 (by decide +kernel), g 245 (by decide +kernel), g 256 (by decide +kernel)⟩, g 257 (by decide +kernel), g 258 (by decide +kernel), g 266 (by decide +kernel), g 267 (by decide +kernel), g 268 (by decide +kernel), g 269 (by decide +kernel), g 270 (by decide +kernel), g 271 (by decide +kernel), g 272 (by decide +kernel), g 273 (by decide +kernel), g 274 (by decide +kernel), g 275 (by decide +kernel), g 276 (by decide +kernel)⟩
theorem TG.kt (hG : TG s p) (hK : Kt_ s s') (hF : ∀ k, (k = 0 ∨ 1000 ≤ k) → s' k = s k) (h9 : 0 ≤ s' 279 p 0) : TG s' p := by
  obtain ⟨h1, h2, h3, h4⟩ := hG
  refine ⟨?_, h2.k hK, ?_, h9⟩
  · unfold TL at *
    simp only [hF 0 (Or.inl rfl), hF 1268 (by omega), hF 1269 (by omega), hF 1270 (by omega), hF 1271 (by omega), hF 1272 (by omega), hF 1273 (by omega), hF 1274 (by omega), hF 1275 (by omega), hF 1276 (by omega), hF 1277 (by omega), hF 1278 (by omega)]
    exact h1
  · unfold NB at *
    rw [hF 1245 (by omega), hK.1.1, hK.1.2.1]
    exact h3
theorem Fk.big {K : Nat} (h : Fk K s s') (hK : K < 2 ^ 1000) (h0 : K.testBit 0 = false) : ∀ k, (k = 0 ∨ 1000 ≤ k) → s' k = s k := fun k hk => h.g k (by
  rcases hk with rfl | hk
  · exact h0
  · exact Nat.testBit_lt_two_pow (Nat.lt_of_lt_of_le hK (Nat.pow_le_pow_right (by decide) hk)))
theorem TG.sl (hG : TG s p) (h : SL p s s' l) : TG s' p := hG.kt h.kt (h.1.big (by decide +kernel) (by decide +kernel)) (by rw [h.1.g 279 (by decide +kernel)]; exact hG.2.2.2)
theorem NM.sl (hN : NM s p) (h : SL p s s' l) : NM s' p ∧ nbf s' p = nbf s p := by
  have g := fun k hk => h.1.g k hk
  unfold NM nbf at *
  rw [g 1243 (by decide +kernel), g 1244 (by decide +kernel), g 1257 (by decide +kernel), g 1258 (by decide +kernel), g 256 (by decide +kernel), g 242 (by decide +kernel), g 243 (by decide +kernel), g 244 (by decide +kernel), g 257 (by decide +kernel), g 258 (by decide +kernel)]
  exact ⟨hN, rfl⟩
theorem Id.kt (hx : Id s p x) (hK : Kt_ s s') : Id s' p x := by unfold Id; rw [hK.2.2.2.1]; exact hx
theorem pps_k (hK : Kt_ s s') : pps s' p x = pps s p x := by
  unfold pps
  have := hK.2.2.2.2.2.2.2.1
  have h2 := hK.2.2.2.2.2.2.2.2.1
  have h3 := hK.2.2.2.2.2.2.2.2.2.2.2.1
  rw [this, h2, h3]
  exact List.map_congr_left fun k _ => by rw [Ty_k hK]
def ShOK (L m : Nat) (p : Int) (C : Nat → Sg → List Int → Ro) (D : Nat) : Prop := ∀ (s : Sg) (x : Int), TG s p → NM s p → LI s p → Id s p x → tdp (Ty s p x) ≤ D → ∃ s', C 0 s [p, x] = ra 0 s' ∧ SL p s s' (tshow (nbf s p) (Ty s p x))
theorem show_p154 (hl : 400000 < L) (hC : ShOK L m p C mm) (hG0 : TG s p) (hN : NM s p) (hL : LI s p) (hx : Id s p x) (hd : ∀ q ∈ pps s p x, tdp q.2 ≤ mm) (x2 : Int) (h2 : x2 = 0 ∨ x2 = 1) : ∀ (L9 : Nat) (suf pre : List (Nat × Tr)) (cur : Sg) (l0 : List Nat), pps s p x = pre ++ suf → SL p s cur (l0 ++ cms (pre.map fun q => (q.1, tshow (nbf s p) q.2))) → suf.length < L9 → ∃ s', f_X21_show_p154 L m C p L9 cur x x2 pre.length = ra 0 s' ∧ SL p s s' (l0 ++ (cms ((pps s p x).map fun q => (q.1, tshow (nbf s p) q.2)) ++ [if x2 = 1 then 41 else 125]))
  | 0, _, _, _, _, _, _, h => by omega
  | L9 + 1, [], pre, cur, l0, e, hS, _ => by
    have hG := hG0.sl hS
    have hK := hS.kt
    have hx' := hx.kt hK
    rw [List.append_nil] at e
    have hlen : (pre.length : Int) = cur 271 0 x := by
      rw [← e, pps_len, hK.2.2.2.2.2.2.2.2.1]
      have := (hG0.2.1.tn2 hx).2.2.1
      omega
    unfold f_X21_show_p154
    rw [inb_of (hG.bd hx').2.2.2, if_neg (by omega)]
    rcases h2 with rfl | rfl
    · obtain ⟨t, e1, f1⟩ := hS.step (L := L) (m := m) hL (b := 125) (by decide) hG0.1.1
      rw [if_pos rfl, show (125 : Int) = ((125 : Nat) : Int) from rfl, e1, rb_ra]
      exact ⟨t, rfl, by rw [e, ← List.append_assoc]; exact f1⟩
    · obtain ⟨t, e1, f1⟩ := hS.step (L := L) (m := m) hL (b := 41) (by decide) hG0.1.1
      rw [if_neg (by decide), show (41 : Int) = ((41 : Nat) : Int) from rfl, e1, rb_ra]
      exact ⟨t, rfl, by rw [e, ← List.append_assoc]; exact f1⟩
  | L9 + 1, q :: suf, pre, cur, l0, e, hS, h9 => by
    have hG := hG0.sl hS
    have hK := hS.kt
    have hx' := hx.kt hK
    have hpz := hG0.2.1.part hx e
    obtain ⟨z1, z2, z3, z4, z5⟩ := hpz
    have hr := hG0.2.1.rng hx
    have h71 : ∀ {u : Sg}, Kt_ s u → u 271 0 x = s 271 0 x := fun h => by rw [h.2.2.2.2.2.2.2.2.1]
    have h70 : ∀ {u : Sg}, Kt_ s u → u 270 0 x = s 270 0 x := fun h => by rw [h.2.2.2.2.2.2.2.1]
    have h74 : ∀ {u : Sg}, Kt_ s u → u 274 = s 274 := fun h => by rw [h.2.2.2.2.2.2.2.2.2.2.2.1]
    have hw := sr_w hG0 hx ⟨by omega, z3⟩
    have hb := fun {u : Sg} {ll} (hS : SL p s u ll) => (hG0.sl hS).bd (hx.kt hS.kt)
    have hbel := fun {u : Sg} {ll} (hS : SL p s u ll) => show f_X21_belowOf L m u p (s 270 0 x + pre.length) = ra q.1 u by
      have := r_below (L := L) (m := m) (hG0.sl hS) (hx.kt hS.kt) (j := pre.length) ⟨by omega, by rw [h71 hS.kt]; exact z3⟩
      rw [h70 hS.kt, h74 hS.kt, z5] at this
      exact this
    have hpar := fun {u : Sg} {ll} (hS : SL p s u ll) => show f_X21_partOf L m u p (s 270 0 x + pre.length) = ra (s 274 0 (s 270 0 x + pre.length) / 2) u by
      have := r_part (L := L) (m := m) (hG0.sl hS) (hx.kt hS.kt) (j := pre.length) ⟨by omega, by rw [h71 hS.kt]; exact z3⟩
      rw [h70 hS.kt, h74 hS.kt] at this
      exact this
    have hq1 : q.1 = 0 ∨ q.1 = 1 := by omega
    have key : ∀ (u : Sg), SL p s u (l0 ++ cms (pre.map fun q => (q.1, tshow (nbf s p) q.2)) ++ (if pre.length = 0 then [] else [44])) → ∃ s', f_X21_show_p174 L m C p (fun s9 y0 y1 y2 => f_X21_show_p154 L m C p L9 s9 y0 y1 y2) u x x2 pre.length = ra 0 s' ∧ SL p s s' (l0 ++ (cms ((pps s p x).map fun q => (q.1, tshow (nbf s p) q.2)) ++ [if x2 = 1 then 41 else 125])) := fun u hS1 => by
      have nxt : ∀ (v : Sg), SL p s v (l0 ++ cms (pre.map fun q => (q.1, tshow (nbf s p) q.2)) ++ (if pre.length = 0 then [] else [44]) ++ pre_ q.1) → ∃ s', (rb (C 0 v [p, s 274 0 (s 270 0 x + pre.length) / 2]) fun _ s10 => f_X21_show_p154 L m C p L9 s10 x x2 (w3 ((pre.length : Int) + 1))) = ra 0 s' ∧ SL p s s' (l0 ++ (cms ((pps s p x).map fun q => (q.1, tshow (nbf s p) q.2)) ++ [if x2 = 1 then 41 else 125])) := fun v hSv => by
        obtain ⟨hNv, hnb⟩ := hN.sl hSv
        have et := Ty_k (p := p) hSv.kt (s 274 0 (s 270 0 x + pre.length) / 2)
        obtain ⟨s2, e2, f2⟩ := hC v _ (hG0.sl hSv) hNv (hL.u hSv) (z1.kt hSv.kt) (by rw [et, z2]; exact hd q (by rw [e]; simp))
        rw [et, z2, hnb] at f2
        rw [e2, rb_ra, w3_i (by omega), show ((pre.length : Int) + 1) = ((pre ++ [q]).length : Nat) by simp]
        refine show_p154 hl hC hG0 hN hL hx hd x2 h2 L9 suf (pre ++ [q]) s2 l0 (by rw [e]; simp) ?_ (by simp at h9; omega)
        have := hSv.tr f2 hL
        rw [List.map_append, List.map_cons, List.map_nil, cms_snoc, List.length_map]
        simpa [List.append_assoc] using this
      unfold f_X21_show_p174
      rw [inb_of (hb hS1).2.2.1, h70 hS1.kt, hw, hbel hS1, rb_ra]
      rcases hq1 with h1 | h1
      · rw [h1, if_pos (by decide), inb_of (hb hS1).2.2.1, h70 hS1.kt, hw, hpar hS1, rb_ra]
        exact nxt u (by rw [h1]; simpa [pre_] using hS1)
      · obtain ⟨t1, e1, f1⟩ := hS1.step (L := L) (m := m) hL (b := 60) (by decide) hG0.1.1
        obtain ⟨t2, e2, f2⟩ := f1.step (L := L) (m := m) hL (b := 58) (by decide) hG0.1.1
        rw [h1, if_neg (by decide), show (60 : Int) = ((60 : Nat) : Int) from rfl, e1, rb_ra, show (58 : Int) = ((58 : Nat) : Int) from rfl, e2, rb_ra, inb_of (hb f2).2.2.1, h70 f2.kt, hw, hpar f2, rb_ra]
        refine nxt t2 ?_
        rw [h1, show pre_ 1 = [60] ++ [58] from rfl, ← List.append_assoc]
        exact f2
    unfold f_X21_show_p154
    rw [inb_of (hG.bd hx').2.2.2, if_pos (by rw [h71 hK]; exact z3)]
    by_cases h0 : pre.length = 0
    · rw [if_neg (by omega)]
      exact key cur (by rw [if_pos h0, List.append_nil]; exact hS)
    · obtain ⟨t1, e1, f1⟩ := hS.step (L := L) (m := m) hL (b := 44) (by decide) hG0.1.1
      rw [if_pos (by omega), show (44 : Int) = ((44 : Nat) : Int) from rfl, e1, rb_ra]
      exact key t1 (by rw [if_neg h0]; exact f1)
end Rr0
