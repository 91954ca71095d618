/-! ===== the reference's types: the table with one more ===== -/
set_option maxRecDepth 100000
def rq (s : Sg) (p o r : Int) : Nat := if o = 3 then rc_ s p r else r.toNat
section Re0
variable {s s' t : Sg} {p x y i j a o r h v : Int} {L m n c d c' d' q : Nat}
theorem bk_lt : ∀ (n : Nat) (h : Int), ∀ i ∈ bk s h n, i < n
  | 0, h, i, hi => by simp [bk] at hi
  | n + 1, h, i, hi => by
    unfold bk at hi
    split at hi
    · rcases List.mem_cons.mp hi with rfl | hi
      · omega
      · have := bk_lt n h i hi; omega
    · have := bk_lt n h i hi; omega
theorem bk_u : ∀ (n : Nat), (∀ i : Nat, i < n → s' 273 0 i = s 273 0 i) → bk s' h n = bk s h n
  | 0, _ => rfl
  | n + 1, hh => by
    unfold bk
    rw [hh n (by omega), bk_u n fun i hi => hh i (by omega)]
theorem bk_mem : ∀ (n i : Nat), i < n → s 273 0 i % 16384 = h → i ∈ bk s h n
  | 0, i, hi, _ => by omega
  | n + 1, i, hi, e => by
    unfold bk
    rcases Nat.lt_or_ge i n with z | z
    · have := bk_mem n i z e
      split
      · exact List.mem_cons_of_mem _ this
      · exact this
    · rw [show n = i by omega, if_pos e]; exact List.mem_cons_self
theorem Chn_u : ∀ (l : List Nat) (v : Int), (∀ i ∈ l, s' 276 0 i = s 276 0 i) → Chn s v l → Chn s' v l
  | [], v, _, h => h
  | i :: l, v, hh, h => ⟨h.1, by rw [hh i List.mem_cons_self]; exact Chn_u l _ (fun j hj => hh j (List.mem_cons_of_mem _ hj)) h.2⟩
theorem pe_u (hn : ∀ i : Nat, i < n → s' 270 0 i = s 270 0 i ∧ s' 271 0 i = s 271 0 i) {k : Nat} (hk : k ≤ n) : pe s' k = pe s k := by
  unfold pe
  split
  · rfl
  · have := hn (k - 1) (by omega)
    rw [show ((k - 1 : Nat) : Int) = (k : Int) - 1 by omega] at this
    rw [this.1, this.2]
/-- of a type nothing is another -/
def Ns (s s' : Sg) (i : Int) : Prop := s' 268 0 i = s 268 0 i ∧ s' 269 0 i = s 269 0 i ∧ s' 270 0 i = s 270 0 i ∧ s' 271 0 i = s 271 0 i ∧ s' 272 0 i = s 272 0 i ∧ s' 273 0 i = s 273 0 i
theorem TN.u {N : Nat} (hN : ∀ i : Nat, i < N → TN s p i) (h1 : ∀ i : Nat, i < N → Ns s s' i) (h2 : ∀ j, 0 ≤ j → j < pe s N → s' 274 0 j = s 274 0 j) (h3 : s' 257 p = s 257 p ∧ s' 258 p = s 258 p) (h4 : s' 242 p = s 242 p ∧ s' 245 p = s 245 p ∧ s' 256 p = s 256 p) {i : Nat} (hi : i < N) : TN s' p i ∧ Ty s' p i = Ty s p i := by
  have e0 : Ty s' p i = Ty s p i := by
    unfold Ty
    rw [show ((i : Int).toNat) = i by omega]
    exact Tf_u hN (fun i hi => ⟨(h1 i hi).1, (h1 i hi).2.1, (h1 i hi).2.2.1, (h1 i hi).2.2.2.1⟩) h2 h3 _ i hi
  refine ⟨?_, e0⟩
  obtain ⟨b1, b2, b3, b4, b5, b6⟩ := h1 i hi
  have hn := hN i hi
  have hp := pe_le (k := i + 1) (by omega) hN
  have hp2 := pe_le (k := i) (by omega) hN
  rw [pe_s] at hp
  have e4 : ∀ k : Nat, k < s 271 0 i → s' 274 0 (s 270 0 i + k) = s 274 0 (s 270 0 i + k) := fun k hk => h2 _ (by have := hn.2.2.1; omega) (by omega)
  have e5 : pts s' i = pts s i := by
    unfold pts
    rw [b3, b4]
    refine List.map_congr_left fun k hk => e4 k ?_
    have := List.mem_range.mp hk
    omega
  have e6 : pps s' p i = pps s p i := by
    unfold pps
    rw [b3, b4]
    refine List.map_congr_left fun k hk => ?_
    have hk := List.mem_range.mp hk
    have h9 := hn.2.2.2.1 k (by omega)
    rw [e4 k (by omega), show s 274 0 (s 270 0 i + k) / 2 = ((s 274 0 (s 270 0 i + k) / 2).toNat : Int) by omega]
    congr 1
    unfold Ty
    exact Tf_u hN (fun i hi => ⟨(h1 i hi).1, (h1 i hi).2.1, (h1 i hi).2.2.1, (h1 i hi).2.2.2.1⟩) h2 h3 _ _ (by omega)
  unfold TN VN at hn ⊢
  rw [b1, b2, b3, b4, b5, b6, e0, e5, e6, h4.1, h4.2.1, h4.2.2, pe_u (n := N) (fun i hi => ⟨(h1 i hi).2.2.1, (h1 i hi).2.2.2.1⟩) (by omega)]
  exact ⟨hn.1, hn.2.1, hn.2.2.1, fun k hk => by rw [e4 k hk]; exact hn.2.2.2.1 k hk, hn.2.2.2.2⟩
theorem FR.ti (hT : TI s p) (hG : GA s p a) (hq : s 279 p 0 = a + q) (hC : Cap s p 1 q) (ho : 0 ≤ o ∧ o ≤ 4) (hr : 0 ≤ r ∧ r < 100000) (hF : FR s s' p o r a (hsh o r (gin s p a q)) q) (hV : VN s p o r (gps s p a q)) (hnew : ∀ i, Id s p i → Ty s p i ≠ ty o.toNat (rq s p o r) (gps s p a q)) : TX p 1 q s s' ∧ Ty s' p (s 266 p 0) = ty o.toNat (rq s p o r) (gps s p a q) := by
  obtain ⟨n, t1, t2, t3, t4, t5, t6, t7⟩ := hT
  obtain ⟨f1, f2, f3, f4, ⟨f5, f6, f7, f8, f9, f10, f11⟩, f12, f13⟩ := hF
  rw [t1] at f2 f4 f5 f6 f7 f8 f9 f10 f11 f12 ⊢
  have h3 : s' 257 p = s 257 p ∧ s' 258 p = s 258 p := ⟨by rw [f1.g 257 (by decide +kernel)], by rw [f1.g 258 (by decide +kernel)]⟩
  have hns : ∀ i : Nat, i < n → Ns s s' i := fun i hi => by
    obtain ⟨z1, z2, z3, z4, z5, z6, z7⟩ := f4 i (by omega)
    exact ⟨z1, z2, z3, z4, z5, z6⟩
  have h74 : ∀ j, 0 ≤ j → j < pe s n → s' 274 0 j = s 274 0 j := fun j _ hj => (f13 j).1 (by omega)
  have h4 : s' 242 p = s 242 p ∧ s' 245 p = s 245 p ∧ s' 256 p = s 256 p := ⟨by rw [f1.g 242 (by decide +kernel)], by rw [f1.g 245 (by decide +kernel)], by rw [f1.g 256 (by decide +kernel)]⟩
  have hu := fun {i : Nat} (hi : i < n) => TN.u t5 hns h74 h3 h4 hi
  have hpe : ∀ k, k ≤ n → pe s' k = pe s k := fun k hk => pe_u (fun i hi => ⟨(hns i hi).2.2.1, (hns i hi).2.2.2.1⟩) hk
  have hg4 : ∀ k : Nat, k < q → s' 274 0 (s 267 p 0 + k) = 2 * s 277 p (a + k) + s 278 p (a + k) := fun k hk => by
    have := (f13 (s 267 p 0 + k)).2 (by omega) (by omega)
    rw [this]
    rw [show s 267 p 0 + (k : Int) - s 267 p 0 = k by omega]
  have hid : ∀ k : Nat, k < q → Id s p (s 277 p (a + k)) ∧ (s 278 p (a + k) = 0 ∨ s 278 p (a + k) = 1) := fun k hk => hG.2 _ (by omega) (by omega)
  have hTy : Ty s' p n = ty o.toNat (rq s p o r) (gps s p a q) := by
    unfold Ty
    rw [show ((n : Int).toNat) = n by omega]
    unfold Tf
    rw [f5, f6, f7, f8]
    refine ty_inj.mpr ⟨rfl, by unfold rq rc_; rw [h3.1, h3.2], ?_⟩
    · unfold gps
      rw [show ((q : Int).toNat) = q by omega]
      refine List.map_congr_left fun k hk => ?_
      have hk := List.mem_range.mp hk
      obtain ⟨z1, z2⟩ := hid k hk
      rw [hg4 k hk, show (2 * s 277 p (a + k) + s 278 p (a + k)) / 2 = ((s 277 p (a + k)).toNat : Int) by have := z1.1; omega]
      have hz : (s 277 p (a + k)).toNat < n := by have := z1.1; have := z1.2; omega
      congr 1
      · omega
      · rw [Tf_u t5 (fun i hi => ⟨(hns i hi).1, (hns i hi).2.1, (hns i hi).2.2.1, (hns i hi).2.2.2.1⟩) h74 h3 _ _ hz]
        unfold Ty
        rw [show s 277 p (a + k) = ((s 277 p (a + k)).toNat : Int) by have := z1.1; omega]
        exact Tf_s _ _ _ (by omega) (by omega) fun b hb => t5 b (by omega)
  have hpp : pps s' p n = gps s p a q := by
    unfold pps gps
    rw [f7, f8, show ((q : Int).toNat) = q by omega]
    refine List.map_congr_left fun k hk => ?_
    have hk := List.mem_range.mp hk
    obtain ⟨z1, z2⟩ := hid k hk
    have hz : (s 277 p (a + k)).toNat < n := by have := z1.1; have := z1.2; omega
    rw [hg4 k hk, show (2 * s 277 p (a + k) + s 278 p (a + k)) / 2 = s 277 p (a + k) by omega]
    congr 1
    · omega
    · have := (hu hz).2
      rwa [show (((s 277 p (a + k)).toNat : Nat) : Int) = s 277 p (a + k) by have := z1.1; omega] at this
  have hTN : TN s' p n := by
    unfold TN VN
    rw [hpp, h4.1, h4.2.1, h4.2.2]
    rw [f5, f6, f7, f8, f9, f10, hTy, tsz_ty, thv_ty, hpe n (Nat.le_refl n), ← t3]
    refine ⟨ho, hr, ⟨by omega, rfl⟩, fun k hk => ?_, ?_, ?_, hV⟩
    · rw [hg4 k (by omega)]
      obtain ⟨z1, z2⟩ := hid k (by omega)
      have := z1.1; have := z1.2
      omega
    · have e : (o.toNat == 4) = (o == 4) := by
        by_cases q : o = 4
        · rw [q]; rfl
        · rw [beq_eq_false_iff_ne.mpr q, beq_eq_false_iff_ne.mpr (by omega)]
      rw [e]
    · congr 1
      unfold pts gin
      rw [f7, f8, show ((q : Int).toNat) = q by omega]
      exact (List.map_congr_left fun k hk => hg4 k (List.mem_range.mp hk)).symm
  have hTN2 : ∀ i, i < n + 1 → TN s' p i := fun i hi => by
    rcases Nat.lt_or_ge i n with z | z
    · exact (hu z).1
    · rw [show i = n by omega]; exact hTN
  have hTI : TI s' p := by
    refine ⟨n + 1, by omega, by have := hC.1; omega, ?_, by have := hC.2; omega, hTN2, fun b b0 b1 => ?_, fun i j hi hj e => ?_⟩
    · rw [pe_s, f7, f8, f3]
    · have h0 := t6 b b0 b1
      have e73 : bk s' b n = bk s b n := bk_u n fun i hi => (hns i hi).2.2.2.2.2
      have hch : ∀ v, Chn s v (bk s b n) → Chn s' v (bk s b n) := fun v => Chn_u _ v fun i hi => (f4 i (by have := bk_lt n b i hi; omega)).2.2.2.2.2.2
      unfold bk
      rw [f10, f12 b, e73]
      by_cases hb : hsh o r (gin s p a q) % 16384 = b
      · rw [if_pos hb, if_pos hb.symm]
        refine ⟨rfl, ?_⟩
        rw [f11, hb]
        exact hch _ h0
      · rw [if_neg hb, if_neg (fun z => hb z.symm)]
        exact hch _ h0
    · have hne : ∀ i : Nat, i < n → Ty s' p i ≠ Ty s' p n := fun i hi z => by
        rw [(hu hi).2, hTy] at z
        exact hnew i ⟨by omega, by omega⟩ z
      rcases Nat.lt_or_ge i n with z | z
      · rcases Nat.lt_or_ge j n with z2 | z2
        · exact t7 i j z z2 (by rw [← (hu z).2, ← (hu z2).2]; exact e)
        · rw [show j = n by omega] at e
          exact absurd e (hne i z)
      · rcases Nat.lt_or_ge j n with z2 | z2
        · rw [show i = n by omega] at e
          exact absurd e.symm (hne j z2)
        · omega
  refine ⟨⟨hTI, fun k hk => f1 k ?_, ⟨by omega, by omega⟩, by omega, fun i hi => ?_, fun j _ _ => ⟨by rw [f1.g 277 (by decide +kernel)], by rw [f1.g 278 (by decide +kernel)]⟩, fun i hi => ?_⟩, hTy⟩
  · have : kT = kN ||| km [277, 278, 279] := by decide +kernel
    rw [this, Nat.testBit_or] at hk
    simp only [Bool.or_eq_false_iff] at hk
    exact hk.1
  · have := (hu (i := i.toNat) (by have := hi.1; have := hi.2; omega)).2
    rwa [show ((i.toNat : Nat) : Int) = i by have := hi.1; omega] at this
  · have hi0 := hi.1
    have hi1 := hi.2
    obtain ⟨z1, z2, z3, z4, z5, z6, z7⟩ := f4 i (by omega)
    refine ⟨z1, z2, z3, z4, z5, fun k k0 k1 => h74 _ ?_ ?_⟩
    · have := (t5 i.toNat (by omega)).2.2.1
      have hp2 := pe_le (k := i.toNat) (by omega) t5
      rw [show ((i.toNat : Nat) : Int) = i by omega] at this
      omega
    · have hp := pe_le (k := i.toNat + 1) (by omega) t5
      rw [pe_s, show ((i.toNat : Nat) : Int) = i by omega] at hp
      omega
end Re0
