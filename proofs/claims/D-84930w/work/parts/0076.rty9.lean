/-! ===== the reference's types: put ===== -/
set_option maxRecDepth 100000
theorem sm_len : ∀ {l : List (Nat × Tr)}, (∀ q ∈ l, 1 ≤ tsz q.2) → l.length ≤ sm tsz l
  | [], _ => Nat.le_refl 0
  | q :: l, h => by
    rw [sm_cons]
    have h1 := sm_len fun q hq => h q (List.mem_cons_of_mem _ hq)
    have h2 := h q List.mem_cons_self
    simp; omega
section Rk0
variable {s : Sg} {p a : Int} {L m : Nat}
/-- pieces are put for variables: by what it calls for parts -/
def Pt1 (L m : Nat) (p : Int) (C : Nat → Sg → List Int → Ro) (D : Nat) : Prop := ∀ (s : Sg) (u t : Int) (e : Bool), TG s p → Id s p u → Id s p t → tdp (Ty s p u) ≤ D → tvl (pa (Ty s p t)).length (Ty s p u) = true → pok e (Ty s p u) = true → (e = true → ∀ q ∈ pa (Ty s p t), q.1 = 0) → Cap s p (tcn (Ty s p u)) (tcd (Ty s p u)) → s 279 p 0 + tsz (Ty s p u) ≤ 4000 → Mk p (tcn (Ty s p u)) (tcd (Ty s p u)) s (C 0 s [p, u, t]) (tput (pa (Ty s p t)) (Ty s p u))
theorem put_p46 (hL : 400000 < L) {C : Nat → Sg → List Int → Ro} {D : Nat} (hC : Pt1 L m p C D) {u t : Int} {e : Bool} {s : Sg} (hG0 : TG s p) (hu : Id s p u) (ht : Id s p t) (ho : s 268 0 u = 0 ∨ s 268 0 u = 2) (hD : ∀ q ∈ pps s p u, tdp q.2 ≤ D) (hv : ∀ q ∈ pps s p u, tvl (pps s p t).length q.2 = true) (hp : ∀ q ∈ pps s p u, pok e q.2 = true) (he : e = true → ∀ q ∈ pps s p t, q.1 = 0) (he2 : s 268 0 u = 2 → e = true) (h1 : ∀ q ∈ pps s p u, 1 ≤ tsz q.2) :
    ∀ (L9 : Nat) (suf pre : List (Nat × Tr)) (cur : Sg), pps s p u = pre ++ suf → TX p (sm tcn pre) (sm tcd pre) s cur → TG cur p → GL cur p a (pre.map (tpp (pps s p t))) → suf.length < L9 → Cap s p (1 + sm tcn (pps s p u)) ((pps s p u).length + sm tcd (pps s p u)) → a + sm tsz (pps s p u) ≤ 4000 → s 279 p 0 = a →
    ∃ v s', f_X21_put_p46 L m C p L9 cur u t a pre.length = ra v s' ∧ TX p (1 + sm tcn (pps s p u)) ((pps s p u).length + sm tcd (pps s p u)) s s' ∧ Id s' p v ∧ Ty s' p v = ty (s 268 0 u).toNat (s 269 0 u).toNat ((pps s p u).map (tpp (pps s p t))) ∧ s' 279 p 0 = a
  | 0, _, _, _, _, _, _, _, h, _, _, _ => by omega
  | L9 + 1, [], pre, cur, e0, hX, hG, hl, _, hcap, hgs, ha => by
    rw [List.append_nil] at e0
    obtain ⟨x1, x2, x3, x4, x5, x6⟩ := hX.id hu
    have hb := hG.bd (hu.u hX)
    have hlen : (pre.length : Int) = s 271 0 u := by
      rw [← e0, pps_len]
      have := (hG0.2.1.tn2 hu).2.2.1
      omega
    unfold f_X21_put_p46
    rw [inb_of hb.2.2.2, x4, if_neg (by omega), inb_of hb.1, inb_of hb.2.1, x1, x2]
    have z := hG0.2.1.tn2 hu
    have hvn := hG0.2.1.vn hu
    have hb0 : ∀ q ∈ pre.map (tpp (pps s p t)), s 268 0 u = 2 → q.1 = 0 := fun q hq h2 => by
      obtain ⟨q', hq', rfl⟩ := List.mem_map.mp hq
      have h3 := hvn.2.2.2.2.2 (by omega) q' (by rw [e0]; exact hq')
      have h4 := he (he2 h2)
      unfold tpp
      split
      · show bor _ _ = 0
        unfold bor
        rw [if_neg]
        rw [h3]
        intro z
        rcases z with z | z
        · cases z
        · by_cases hlt : re q'.2 < (pps s p t).length
          · have := h4 _ (List.getElem_mem hlt)
            rw [List.getD_eq_getElem?_getD, List.getElem?_eq_getElem hlt] at z
            simp at z
            omega
          · rw [List.getD_eq_getElem?_getD, List.getElem?_eq_none (by omega)] at z
            cases z
      · exact h3
    obtain ⟨v, s', f1, f2, f3, f4, f5⟩ := r_mk (m := m) (o := s 268 0 u) (r := s 269 0 u) hG hl (by
      have h5 := (Cap.af (c := sm tcn pre) (d := sm tcd pre) (c' := 1) (d' := pre.length) (hcap.wd (by rw [e0]; omega) (by rw [e0]; omega)) hX)
      rw [List.length_map]; exact h5) (by omega) z.2.1 hL (by
      rcases ho with h0 | h0
      · rw [h0]
        have h6 := hvn.1 h0
        refine VN.of0 ?_ ?_
        · rw [hX.2.1.g 242 (by decide +kernel)]; exact h6.1
        · rw [List.length_map, hX.2.1.g 245 (by decide +kernel), ← h6.2, e0]
      · rw [h0, hvn.2.2.1 h0]
        exact VN.of2 fun q hq => hb0 q hq h0) (by omega)
    refine ⟨v, s', by rw [f1]; rfl, ?_, f3, by rw [f4, e0], f5⟩
    rw [e0]
    exact (hX.tr (by have := hl.1.1.2.1; omega) f2).wd (by rw [Nat.add_comm]; exact Nat.le_refl _) (by rw [List.length_map, Nat.add_comm]; exact Nat.le_refl _)
  | L9 + 1, q :: suf, pre, cur, e0, hX, hG, hl, h9, hcap, hgs, ha => by
    obtain ⟨x1, x2, x3, x4, x5, x6⟩ := hX.id hu
    have hu' := hu.u hX
    have hb := hG.bd hu'
    obtain ⟨k1, k2, k3⟩ := pps_at hG0.2.1 e0
    have hk : 0 ≤ (pre.length : Int) ∧ (pre.length : Int) < cur 271 0 u := ⟨by omega, by rw [x4]; exact k1⟩
    obtain ⟨y1, y2, y3⟩ := (hG0.2.1.tn2 hu).2.2.2 pre.length (by omega) k1
    have hw : w3 (s 270 0 u + pre.length) = s 270 0 u + pre.length := sr_w hG0 hu ⟨by omega, k1⟩
    have hw9 : w3 ((pre.length : Int) + 1) = (pre ++ [q]).length := by
      have := (hG0.2.1.rng hu)
      rw [w3_i (by omega)]; simp
    have e5 := x5 pre.length (by omega) k1
    generalize hz : s 274 0 (s 270 0 u + pre.length) = z at *
    have hqm : q ∈ pps s p u := by rw [e0]; simp
    have hpart := fun (cu : Sg) (hGc : TG cu p) (hXc : cu 270 0 u = s 270 0 u ∧ cu 271 0 u = s 271 0 u ∧ cu 274 0 (s 270 0 u + pre.length) = z) (hi : Id cu p u) => show f_X21_partOf L m cu p (s 270 0 u + pre.length) = ra (z / 2) cu by
      have := r_part (L := L) (m := m) hGc hi (j := pre.length) ⟨by omega, by rw [hXc.2.1]; exact k1⟩
      rw [hXc.1, hXc.2.2] at this
      exact this
    have hbelow := fun (cu : Sg) (hGc : TG cu p) (hXc : cu 270 0 u = s 270 0 u ∧ cu 271 0 u = s 271 0 u ∧ cu 274 0 (s 270 0 u + pre.length) = z) (hi : Id cu p u) => show f_X21_belowOf L m cu p (s 270 0 u + pre.length) = ra (z % 2) cu by
      have := r_below (L := L) (m := m) hGc hi (j := pre.length) ⟨by omega, by rw [hXc.2.1]; exact k1⟩
      rw [hXc.1, hXc.2.2] at this
      exact this
    have hcg := hG.2.2.2
    have hsum3 : sm tsz (pps s p u) = sm tsz pre + (tsz q.2 + sm tsz suf) := by rw [e0, sm_app, sm_cons]
    have hpl : pre.length ≤ sm tsz pre := sm_len fun q hq => h1 q (by rw [e0]; exact List.mem_append_left _ hq)
    have hq1 := h1 q (by rw [e0]; simp)
    have hgl : cur 279 p 0 = a + pre.length := by rw [hl.2.1, List.length_map]
    have hlen : (pps s p u).length = pre.length + (suf.length + 1) := by rw [e0]; simp
    have nxt := fun (cu : Sg) (hXc : TX p (sm tcn (pre ++ [q])) (sm tcd (pre ++ [q])) s cu) (hGc : TG cu p) (hlc : GL cu p a ((pre ++ [q]).map (tpp (pps s p t)))) => put_p46 hL hC hG0 hu ht ho hD hv hp he he2 h1 L9 suf (pre ++ [q]) cu (by rw [e0]; simp) hXc hGc hlc (by simp at h9; omega) hcap hgs ha
    unfold f_X21_put_p46
    rw [inb_of hb.2.2.2, if_pos hk.2, inb_of hb.2.2.1, x3, hw, hpart cur hG ⟨x3, x4, e5⟩ hu', rb_ra]
    have hb2 := hG.bd (y2.u hX)
    obtain ⟨w1, w2, w3', w4, w5, w6⟩ := hX.id y2
    rw [inb_of hb2.1, w1]
    have hfo := hG0.2.1.fo y2
    have ho2 := (hG0.2.1.tn2 y2).1
    by_cases h4 : s 268 0 (z / 2) = 4
    · rw [if_pos h4]
      have ht' := ht.u hX
      obtain ⟨t1, t2, t3, t4, t5, t6⟩ := hX.id ht
      have hbt := hG.bd ht'
      have hre := hG0.2.1.re y2 (by omega)
      have hvq := hv q hqm
      have hr0 := (hG0.2.1.tn2 y2).2.1
      rw [k3, hG0.2.1.eq y2, tvl_ty] at hvq
      rw [h4] at hvq
      simp at hvq
      have hrr : rr s p (z / 2) = (s 269 0 (z / 2)).toNat := by unfold rr; rw [if_neg (by omega)]
      rw [hrr] at hvq
      have hrt : 0 ≤ s 269 0 (z / 2) ∧ s 269 0 (z / 2) < s 271 0 t := ⟨by omega, by have := hvq.1; rw [pps_len] at this; omega⟩
      have hwt := sr_w hG0 ht hrt
      have hct : cur 269 0 (z / 2) = s 269 0 (z / 2) := w2
      have hpt := r_part (L := L) (m := m) hG ht' (j := s 269 0 (z / 2)) (by rw [t4]; exact hrt)
      have hbt2 := r_below (L := L) (m := m) hG ht' (j := s 269 0 (z / 2)) (by rw [t4]; exact hrt)
      rw [t3, t5 _ hrt.1 hrt.2] at hpt hbt2
      obtain ⟨v1, v2, v3⟩ := (hG0.2.1.tn2 ht).2.2.2 _ hrt.1 hrt.2
      have hget : (pps s p t).getD (re q.2) (0, lf 0) = ((s 274 0 (s 270 0 t + s 269 0 (z / 2)) % 2).toNat, Ty s p (s 274 0 (s 270 0 t + s 269 0 (z / 2)) / 2)) := by
        rw [k3, hre, List.getD_eq_getElem?_getD, List.getElem?_eq_getElem hvq.1, Option.getD_some, pps_get]
        rw [show (((s 269 0 (z / 2)).toNat : Nat) : Int) = s 269 0 (z / 2) by omega]
      have hfq : fo q.2 = 4 := by rw [k3, hfo, h4]; rfl
      have htp : tpp (pps s p t) q = (bor q.1 ((pps s p t).getD (re q.2) (0, lf 0)).1, ((pps s p t).getD (re q.2) (0, lf 0)).2) := by
        unfold tpp
        rw [if_pos hfq]
        congr 1
        rw [k3, hG0.2.1.eq y2, tput_ty, re_ty, if_pos (by rw [h4]; rfl)]
      rw [inb_of hbt.2.2.1, inb_of hb2.2.1, w2, t3, hwt, hpt, rb_ra, inb_of hb.2.2.1, x3, hw, hbelow cur hG ⟨x3, x4, e5⟩ hu', rb_ra]
      have fin : ∀ b : Int, (b = 0 ∨ b = 1) → (b.toNat = bor q.1 (s 274 0 (s 270 0 t + s 269 0 (z / 2)) % 2).toNat) → ∃ v s', (rb (f_X21_gather L m cur p (s 274 0 (s 270 0 t + s 269 0 (z / 2)) / 2) b) fun v39 s40 => f_X21_put_p46 L m C p L9 s40 u t a (w3 ((pre.length : Int) + 1))) = ra v s' ∧ TX p (1 + sm tcn (pps s p u)) ((pps s p u).length + sm tcd (pps s p u)) s s' ∧ Id s' p v ∧ Ty s' p v = ty (s 268 0 u).toNat (s 269 0 u).toNat ((pps s p u).map (tpp (pps s p t))) ∧ s' 279 p 0 = a := fun b hb' hbb => by
        have hgX := gth_X (x := s 274 0 (s 270 0 t + s 269 0 (z / 2)) / 2) (b := b) hG.2.1
        have hgl2 := hl.push hG.2.1 (by omega) (v2.u hX) hb'
        rw [r_gather hG (by omega) hb', rb_ra, hw9]
        refine nxt _ ((hX.tr (by omega) hgX).wd (by rw [sm_app]; omega) (by rw [sm_app]; omega)) (hG.u hgX (by rw [gth_9]; omega)) ?_
        rw [List.map_append]
        have : [tpp (pps s p t) q] = [(b.toNat, Ty cur p (s 274 0 (s 270 0 t + s 269 0 (z / 2)) / 2))] := by
          rw [htp, hget, hX.2.2.2.2.1 _ v2, hbb]
        show GL _ p a (List.map (tpp (pps s p t)) pre ++ [tpp (pps s p t) q])
        rw [this]
        exact hgl2
      by_cases h6 : z % 2 = 0
      · rw [if_pos h6, inb_of hbt.2.2.1, inb_of hb2.2.1, w2, t3, hwt, hbt2, rb_ra]
        by_cases h7 : s 274 0 (s 270 0 t + s 269 0 (z / 2)) % 2 = 0
        · rw [if_pos h7]
          exact fin 0 (Or.inl rfl) (by rw [k2, h6, h7]; rfl)
        · rw [if_neg h7]
          exact fin 1 (Or.inr rfl) (by rw [k2, h6, show s 274 0 (s 270 0 t + s 269 0 (z / 2)) % 2 = 1 by omega]; rfl)
      · rw [if_neg h6]
        exact fin 1 (Or.inr rfl) (by rw [k2, show z % 2 = 1 by omega]; exact (if_pos (Or.inl rfl)).symm)
    · rw [if_neg h4]
      have hsum : sm tcn (pps s p u) = sm tcn pre + (tcn q.2 + sm tcn suf) := by rw [e0, sm_app, sm_cons]
      have hsum2 : sm tcd (pps s p u) = sm tcd pre + (tcd q.2 + sm tcd suf) := by rw [e0, sm_app, sm_cons]
      have hfq : fo q.2 ≠ 4 := by rw [k3, hfo]; omega
      have ett : Ty cur p (z / 2) = q.2 := by rw [w6, k3]
      have etp : pa (Ty cur p t) = pps s p t := by rw [hX.2.2.2.2.1 t ht, hG0.2.1.pa ht]
      obtain ⟨v, s1, g1, g2, g3, g4, g5⟩ := hC cur (z / 2) t e hG (y2.u hX) (ht.u hX) (by rw [ett]; exact hD q hqm) (by rw [ett, etp]; exact hv q hqm) (by rw [ett]; exact hp q hqm) (by rw [etp]; exact he) (by
        rw [ett]
        exact Cap.af (c := sm tcn pre) (d := sm tcd pre) (hcap.wd (by omega) (by omega)) hX) (by rw [ett]; omega)
      rw [ett, etp] at g4
      rw [ett] at g2
      have hX1 := hX.tr (by omega) g2
      have hG1 := hG.u g2 (by rw [g5]; omega)
      obtain ⟨r1, r2, r3, r4, r5, r6⟩ := hX1.id hu
      have hu1 := hu.u hX1
      have hb1 := hG1.bd hu1
      have e6 := r5 pre.length (by omega) k1
      rw [hz] at e6
      rw [g1, rb_ra, inb_of hb1.2.2.1, r3, hw, hbelow s1 hG1 ⟨r3, r4, e6⟩ hu1, rb_ra, r_gather hG1 (by omega) (by omega), rb_ra, hw9]
      have hgX := gth_X (x := v) (b := z % 2) hG1.2.1
      have hgl2 := (hl.ext g2 g5).push hG1.2.1 (by omega) g3 (b := z % 2) (by omega)
      refine nxt _ ((hX1.tr (by omega) hgX).wd (by rw [sm_app, sm_cons, sm_nil]; omega) (by rw [sm_app, sm_cons, sm_nil]; omega)) (hG1.u hgX (by rw [gth_9]; omega)) ?_
      rw [List.map_append]
      have : [tpp (pps s p t) q] = [((z % 2).toNat, Ty s1 p v)] := by
        unfold tpp
        rw [if_neg hfq, g4, k2]
      show GL _ p a (List.map (tpp (pps s p t)) pre ++ [tpp (pps s p t) q])
      rw [this]
      exact hgl2
end Rk0
