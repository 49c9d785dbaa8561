/-! fronts of one rule's symbols over a stretch: the model, joined -/
section MM3
variable {b : Lb} {lim : Int} {ws : List Int} {W : Int → Int → Int → Nat} {N : NW}
/-- rows of fronts before row k: as they should be where the rest may still come -/
def TfM (b : Lb) (W : Int → Int → Int → Nat) (w : Int → Int) (T : List Int) (i e k : Nat) (N : NW) : Prop := ∀ j q : Nat, j < k → i ≤ q → q ≤ e → ∃ g : Nat, N 736 (61 * (j : Int) + q) = (g : Nat) ∧ g ≤ 2 ∧ (q + (T.length - j) ≤ e → g = fwk b W w i T j q)
theorem sumR_cut {f : Int → Nat} {i n m : Nat} (h : n ≤ m) (h0 : ∀ p : Int, (i : Int) + (n : Int) ≤ p → p < (i : Int) + (m : Int) → f p = 0) : sumR f i m = sumR f i n := by
  obtain ⟨k, rfl⟩ : ∃ k, m = n + k := ⟨m - n, by omega⟩
  rw [sumR_split k n, sumR_zero k (fun p p0 p1 => h0 p (by omega) (by omega)), Nat.add_zero]
theorem nAA_fwk {w : Int → Int} {T : List Int} {i e k : Nat} {G : Nat → Nat} (hk : k < T.length) (hT : ∀ s ∈ T, 0 ≤ s ∧ (b.con s = false → 0 ≤ b.typ s)) (hG : ∀ p : Nat, i ≤ p → p + (T.length - k) ≤ e → G p = fwk b W w i T k p) {q : Nat} (h1 : i ≤ q) (h2 : q + (T.length - (k + 1)) ≤ e) : nAA b W w i (e - (T.length - (k + 1))) G (T.getD k 0) e q = fwk b W w i T (k + 1) q := by
  have sm : T.getD k 0 ∈ T := getD_in hk
  obtain ⟨s0, st⟩ := hT _ sm
  unfold nAA fwk
  rw [take_rev hk, List.map_cons, fw_cons]
  by_cases c : b.con (T.getD k 0) = true
  · have ex : scd b (T.getD k 0) = -1 - T.getD k 0 := by unfold scd; rw [if_pos c]
    rw [if_pos c, ex, if_pos (c := -1 - T.getD k 0 < 0) (by omega)]
    by_cases z : i < q ∧ q ≤ e ∧ w ((q - 1 : Nat) : Int) = T.getD k 0
    · rw [if_pos z, if_pos ⟨by omega, by rw [show (q : Int) - 1 = ((q - 1 : Nat) : Int) by omega, z.2.2]; omega⟩, hG (q - 1) (by omega) (by omega), show (q : Int) - 1 = ((q - 1 : Nat) : Int) by omega]
      rfl
    · rw [if_neg z, if_neg]
      rintro ⟨y1, y2⟩
      rw [show (q : Int) - 1 = ((q - 1 : Nat) : Int) by omega] at y2
      exact z ⟨by omega, by omega, by omega⟩
  · have t0 := st (by simpa using c)
    have ex : scd b (T.getD k 0) = b.typ (T.getD k 0) := by unfold scd; rw [if_neg c]
    rw [if_neg c, ex, if_neg (c := b.typ (T.getD k 0) < 0) (by omega), if_pos (by omega), sumR_cut (n := q - i) (by omega) (fun p p0 p1 => if_neg (by omega)), show ((q : Int) - (i : Nat)).toNat = q - i by omega]
    congr 1
    refine sumR_congr _ fun p p0 p1 => ?_
    obtain ⟨p', rfl⟩ := Int.eq_ofNat_of_zero_le (show 0 ≤ p by omega)
    rw [if_pos (by omega), Int.toNat_natCast, hG p' (by omega) (by omega)]
    rfl
/-- a way goes through every row -/
theorem fwk_way {w : Int → Int} {T : List Int} {i e : Nat} (hT : ∀ s ∈ T, 0 ≤ s ∧ (b.con s = false → 0 ≤ b.typ s)) (h : 0 < fwk b W w i T T.length e) : ∀ d k : Nat, k + d = T.length → ∃ q : Nat, i ≤ q ∧ q + d ≤ e ∧ 0 < fwk b W w i T k q
  | 0, k, hk => by
    have : i ≤ e := by
      have := fw_len _ _ h
      omega
    rw [show k = T.length by omega]
    exact ⟨e, this, by omega, h⟩
  | d + 1, k, hk => by
    obtain ⟨q, q1, q2, q3⟩ := fwk_way hT h d (k + 1) (by omega)
    obtain ⟨p, p1, p2, p3⟩ := (fwk_S (by omega) hT q).1 q3
    unfold ctP at p3
    rw [Bool.and_eq_true, decide_eq_true_iff] at p3
    obtain ⟨p', rfl⟩ := Int.eq_ofNat_of_zero_le (show 0 ≤ p by omega)
    exact ⟨p', by omega, by omega, p2⟩
theorem mm_l142 {K : NW → OR} {Q : Int → NW → Prop} {N0 : NW} {r i e : Nat} (h : MTe b lim ws W N0) (hr : r < b.st.length) (ru : isRu b (b.st.getD r nul) = true) (l60 : (b.st.getD r nul).row.length ≤ 60) (hie : i < e) (he : e ≤ ws.length) (f1 : 0 < fw W (wS ws) i (cdR b r) e) (hK : ∀ M, FrL L736 N0 M → TfM b W (wS ws) (b.st.getD r nul).row.tail i e ((b.st.getD r nul).row.tail.length + 1) M → Ev (K M) Q) : ∀ (d n k : Nat) (N : NW), k + d = (b.st.getD r nul).row.tail.length + 1 → 1 ≤ k → d + 500 < n → FrL L736 N0 N → TfM b W (wS ws) (b.st.getD r nul).row.tail i e k N → Ev (m_match_l142 i e ((b.st.getD r nul).row.tail.length : Nat) (offR b.st r + 1) K n k N) Q := by
  have hz := h.hz
  have wf := h.hb.wf
  have tl : (b.st.getD r nul).row.tail.length = (b.st.getD r nul).row.length - 1 := List.length_tail
  have l2 := (isRu_1 ru).2.2.2.1
  have sT : ∀ s ∈ (b.st.getD r nul).row.tail, 0 ≤ s ∧ (b.con s = false → 0 ≤ b.typ s) := fun s hs => ru_sy h.gf wf hr ru s (List.mem_reverse.2 hs)
  have fl : 0 < fwk b W (wS ws) i (b.st.getD r nul).row.tail (b.st.getD r nul).row.tail.length e := by rw [fwk_all, ← cdR_map]; exact f1
  have len := fw_len _ _ f1
  unfold cdR at len
  rw [List.length_reverse, List.length_map] at len
  intro d
  induction d with
  | zero =>
    intro n k N hk h1 hn F hT
    obtain ⟨n, rfl⟩ : ∃ k, n = k + 1 := ⟨n - 1, by omega⟩
    rw [m_match_l142, if_pos (by omega)]
    rw [show k = (b.st.getD r nul).row.tail.length + 1 by omega] at hT
    exact hK N F hT
  | succ d ih =>
    intro n k N hk h1 hn F hT
    have hN := h.fr (F.sub (by decide))
    have sv := stM hN.hb hr rfl
    have p3 := sv.1.2.2.1
    have p4 := sv.2.2.1.1
    have p5 := sv.2.2.1.2
    obtain ⟨k, rfl⟩ : ∃ k', k = k' + 1 := ⟨k - 1, by omega⟩
    have kl : k < (b.st.getD r nul).row.tail.length := by omega
    have sm : (b.st.getD r nul).row.tail.getD k 0 ∈ (b.st.getD r nul).row.tail := getD_in kl
    have sr := (wf.st r hr).row _ (List.mem_of_mem_tail sm)
    have st := fun c => (ru_ty h.gf wf hr rfl ru _ (List.mem_of_mem_tail sm) c).2
    have f660 : N 660 (offR b.st r + 1 + (k : Int)) = (b.st.getD r nul).row.tail.getD k 0 := by
      rw [p3.get (by omega) (by omega), show (offR b.st r + 1 + (k : Int) - offR b.st r).toNat = k + 1 by omega]
      obtain ⟨x, t, hrow⟩ : ∃ x t, (b.st.getD r nul).row = x :: t := List.exists_cons_of_ne_nil (wf.st r hr).ne
      rw [hrow]; rfl
    have ew : ∀ _u : Unit, w32 (w32 (offR b.st r + 1 + ((k + 1 : Nat) : Int)) - 1) = offR b.st r + 1 + k := fun _ => by
      rw [w32_id (x := offR b.st r + 1 + ((k + 1 : Nat) : Int)) (by omega) (by omega), w32_id (by omega) (by omega)]
      omega
    obtain ⟨q0, w1, w2, w3⟩ := fwk_way sT fl ((b.st.getD r nul).row.tail.length - (k + 1)) (k + 1) (by omega)
    obtain ⟨p0, y1, y2, y3⟩ := (fwk_S (by omega) sT q0).1 w3
    obtain ⟨p0', rfl⟩ := Int.eq_ofNat_of_zero_le (show 0 ≤ p0 by omega)
    -- what the row before holds
    have Gq : ∀ q : Nat, i ≤ q → q ≤ e → N 736 (61 * (k : Int) + q) = ((N 736 (61 * (k : Int) + q)).toNat : Nat) ∧ (N 736 (61 * (k : Int) + q)).toNat ≤ 2 ∧ (q + ((b.st.getD r nul).row.tail.length - k) ≤ e → (N 736 (61 * (k : Int) + q)).toNat = fwk b W (wS ws) i (b.st.getD r nul).row.tail k q) := fun q h1 h2 => by
      obtain ⟨g, g1, g2, g3⟩ := hT k q (by omega) h1 h2
      rw [g1]
      exact ⟨by omega, by omega, fun z => by have := g3 z; omega⟩
    obtain ⟨n, rfl⟩ : ∃ k, n = k + 1 := ⟨n - 1, by omega⟩
    rw [m_match_l142, if_neg (by omega), ew (), ck_pos ⟨by omega, by omega⟩, f660, lt_eq]
    refine mm_l169 (N0 := N) (i := i) (e := e) (k := k + 1) (by omega) (by omega) (fun N22 F22 z22 o22 => ?_) (e + 1 - i) n i N (by omega) (by omega) (FrL.refl _ _) (fun q h1 h2 => by omega) (fun _ _ => rfl)
    have h22 := hN.fr (F22.sub (by decide))
    refine mm_l198 (N0 := N22) (G := fun q => (N 736 (61 * (k : Int) + q)).toNat) (i := i) (e := e) (k := k + 1) (m := (b.st.getD r nul).row.tail.length) (l := e - ((b.st.getD r nul).row.tail.length - (k + 1))) (s := (b.st.getD r nul).row.tail.getD k 0) h22 sr st he ⟨by omega, by omega⟩ (by omega) (by omega) (fun q h1 h2 => ?_) (fun N62 v8 F62 R62 P62 => ?_) (e - i) n i 0 N22 (by omega) (Nat.le_refl _) (by omega) (FrL.refl _ _) ⟨fun q h1 h2 => ?_, fun _ _ => rfl⟩ ⟨Int.le_refl _, by omega⟩ (fun p h1 h2 => by omega)
    · rw [show k + 1 - 1 = k by omega, o22 _ (by omega)]
      have := Gq q h1 h2
      exact ⟨this.1, this.2.1⟩
    · have z8 : v8 ≠ 0 := by
        have c3 := y3
        unfold ctP at c3
        rw [Bool.and_eq_true, decide_eq_true_iff] at c3
        have gp := Gq p0' (by omega) (by omega)
        have pp := P62 p0' (by omega) (by omega) (by have := gp.2.2 (by omega); omega)
        by_cases c : b.con ((b.st.getD r nul).row.tail.getD k 0) = true
        · rw [if_pos c, Bool.and_eq_true, decide_eq_true_iff, decide_eq_true_iff] at c3
          have := pp.1 c c3.2.2
          omega
        · rw [if_neg c, decide_eq_true_iff] at c3
          have := pp.2 (by simpa using c) q0 (by omega) (by omega) c3.2
          omega
      have T62 : TfM b W (wS ws) (b.st.getD r nul).row.tail i e (k + 1 + 1) N62 := fun j q h1 h2 h3 => by
        by_cases c : j = k + 1
        · rw [c]
          have := R62.a q h2 h3
          exact ⟨_, this.1, this.2, fun z => nAA_fwk kl sT (fun p p1 p2 => (Gq p p1 (by omega)).2.2 p2) h2 z⟩
        · obtain ⟨g, g1, g2, g3⟩ := hT j q (by omega) h2 h3
          exact ⟨g, by rw [R62.o _ (by omega), o22 _ (by omega)]; exact g1, g2, g3⟩
      rw [if_neg z8, w32_id (x := ((k + 1 : Nat) : Int) + 1) (by omega) (by omega)]
      exact ih n (k + 1 + 1) N62 (by omega) (by omega) (by omega) ((F.trans' F22).trans' F62) T62
    · have e0 : nAA b W (wS ws) i (e - ((b.st.getD r nul).row.tail.length - (k + 1))) (fun q => (N 736 (61 * (k : Int) + q)).toNat) ((b.st.getD r nul).row.tail.getD k 0) i q = 0 := by
        unfold nAA
        by_cases c : b.con ((b.st.getD r nul).row.tail.getD k 0) = true
        · rw [if_pos c, if_neg (fun z => by omega)]
        · rw [if_neg c, Nat.sub_self]
          split <;> rfl
      rw [e0, z22 q h1 h2]
      exact ⟨rfl, Nat.zero_le _⟩
set_option maxRecDepth 100000 in
theorem q_match {n r i e : Nat} (hn : 2000 ≤ n) (h : MTe b lim ws W N) (hr : r < b.st.length) (ru : isRu b (b.st.getD r nul) = true) (l60 : (b.st.getD r nul).row.length ≤ 60) (hie : i < e) (he : e ≤ ws.length) (f1 : 0 < fw W (wS ws) i (cdR b r) e) {X : OR} (hX : m_match n r i e N = X) : Ev X (fun _ M => FrL L736 N M ∧ TfM b W (wS ws) (b.st.getD r nul).row.tail i e ((b.st.getD r nul).row.tail.length + 1) M) := by
  have hz := h.hz
  have wf := h.hb.wf
  have nl := wf.nl
  have tl : (b.st.getD r nul).row.tail.length = (b.st.getD r nul).row.length - 1 := List.length_tail
  have l2 := (isRu_1 ru).2.2.2.1
  obtain ⟨⟨p1, p2, p3, -⟩, -, ⟨p4, p5⟩, -, p6, -⟩ := stM h.hb hr rfl
  have len := fw_len _ _ f1
  have ecd := cdR_map (b := b) r
  have lenc : (cdR b r).length = (b.st.getD r nul).row.tail.length := by unfold cdR; rw [List.length_reverse, List.length_map]
  rw [lenc] at len
  have f660 : ∀ k : Nat, k < (b.st.getD r nul).row.tail.length → N 660 (offR b.st r + 1 + (k : Int)) = (b.st.getD r nul).row.tail.getD k 0 := fun k hk => by
    rw [p3.get (by omega) (by omega), show (offR b.st r + 1 + (k : Int) - offR b.st r).toNat = k + 1 by omega]
    obtain ⟨x, t, hrow⟩ : ∃ x t, (b.st.getD r nul).row = x :: t := List.exists_cons_of_ne_nil (wf.st r hr).ne
    rw [hrow]; rfl
  have sr : ∀ k, k < (b.st.getD r nul).row.tail.length → 0 ≤ (b.st.getD r nul).row.tail.getD k 0 ∧ (b.st.getD r nul).row.tail.getD k 0 < b.sy.length := fun k hk => (wf.st r hr).row _ (List.mem_of_mem_tail (getD_in hk))
  have s0 := sr 0 (by omega)
  have s9 := sr ((b.st.getD r nul).row.tail.length - 1) (by omega)
  have e0 := f660 0 (by omega)
  have e9 := f660 ((b.st.getD r nul).row.tail.length - 1) (by omega)
  have v : ∀ s : Int, 0 ≤ s ∧ s < b.sy.length → N 652 s = if b.con s = true then 0 else 1 := fun s hs => by
    obtain ⟨sn, rfl⟩ := Int.eq_ofNat_of_zero_le hs.1
    exact (h.hb.ra.v sn (by omega)).1
  have v0 := v _ s0
  have v9 := v _ s9
  -- the two tests
  have t0 : b.con ((b.st.getD r nul).row.tail.getD 0 0) = true → (b.st.getD r nul).row.tail.getD 0 0 = N 719 i := fun c => by
    rw [h.r719 i (by omega)]
    obtain ⟨x, t, hrow⟩ : ∃ x t, (b.st.getD r nul).row.tail = x :: t := List.exists_cons_of_ne_nil (fun z => by
      have z1 : (b.st.getD r nul).row.tail.length = 0 := by rw [z]; rfl
      omega)
    have e : cdR b r = (t.map (scd b)).reverse ++ [scd b x] := by unfold cdR; rw [hrow, List.map_cons, List.reverse_cons]
    rw [hrow] at c s0 ⊢
    have c : b.con x = true := c
    have s0 : 0 ≤ x ∧ x < b.sy.length := s0
    have ex : scd b x = -1 - x := by unfold scd; rw [if_pos c]
    have f1 := f1
    rw [e, ex] at f1
    have := fw_fst (by omega) _ _ f1
    show x = wS ws i
    omega
  have t9 : b.con ((b.st.getD r nul).row.tail.getD ((b.st.getD r nul).row.tail.length - 1) 0) = true → (b.st.getD r nul).row.tail.getD ((b.st.getD r nul).row.tail.length - 1) 0 = N 719 ((e : Int) - 1) := fun c => by
    rw [show (e : Int) - 1 = ((e - 1 : Nat) : Int) by omega, h.r719 (e - 1) (by omega)]
    have e2 := take_rev (T := (b.st.getD r nul).row.tail) (k := (b.st.getD r nul).row.tail.length - 1) (by omega)
    rw [show (b.st.getD r nul).row.tail.length - 1 + 1 = (b.st.getD r nul).row.tail.length by omega, List.take_of_length_le (Nat.le_refl _)] at e2
    have ex : scd b ((b.st.getD r nul).row.tail.getD ((b.st.getD r nul).row.tail.length - 1) 0) = -1 - (b.st.getD r nul).row.tail.getD ((b.st.getD r nul).row.tail.length - 1) 0 := by unfold scd; rw [if_pos c]
    have f1 := f1
    rw [ecd, e2, List.map_cons, ex] at f1
    have := fw_lst (by omega) f1
    rw [show (e : Int) - 1 = ((e - 1 : Nat) : Int) by omega] at this
    omega
  have go : Ev (m_match_l109 i e ((b.st.getD r nul).row.tail.length : Nat) (offR b.st r + 1) (fun (N16 : NW) => (m_match_l142 i e ((b.st.getD r nul).row.tail.length : Nat) (offR b.st r + 1) (fun (N65 : NW) => (ck (0 ≤ (w32 ((w32 (61 * (((b.st.getD r nul).row.tail.length : Nat) : Int))) + e)) ∧ (w32 ((w32 (61 * (((b.st.getD r nul).row.tail.length : Nat) : Int))) + e)) < 3800) (some (N65 736 (w32 ((w32 (61 * (((b.st.getD r nul).row.tail.length : Nat) : Int))) + e)), N65)) : OR)) n 1 N16 : OR)) n i N) (fun _ M => FrL L736 N M ∧ TfM b W (wS ws) (b.st.getD r nul).row.tail i e ((b.st.getD r nul).row.tail.length + 1) M) := by
    refine mm_l109 (N0 := N) (by omega) (fun N16 F16 z16 => ?_) (e + 1 - i) n i N (by omega) (by omega) (FrL.refl _ _) (fun q h1 h2 => by omega)
    refine mm_l142 (N0 := N16) (h.fr (F16.sub (by decide))) hr ru l60 hie he f1 (fun N65 F65 T65 => ?_) (b.st.getD r nul).row.tail.length n 1 N16 (by omega) (Nat.le_refl _) (by omega) (FrL.refl _ _) (fun j q h1 h2 h3 => ?_)
    · rw [w32_id (x := 61 * (((b.st.getD r nul).row.tail.length : Nat) : Int)) (by omega) (by omega), w32_id (x := 61 * (((b.st.getD r nul).row.tail.length : Nat) : Int) + e) (by omega) (by omega), ck_pos ⟨by omega, by omega⟩]
      exact Ev.mk ⟨F16.trans' F65, T65⟩
    · rw [show j = 0 by omega, show 61 * ((0 : Nat) : Int) + (q : Int) = q by omega, z16 q h2 h3]
      refine ⟨if q = i then 1 else 0, by split <;> rfl, by split <;> omega, fun _ => ?_⟩
      show _ = if (q : Int) = (i : Int) then 1 else 0
      exact icg ⟨fun z => by omega, fun z => by omega⟩
  have a1 : ∀ _u : Unit, w32 ((b.st.getD r nul).row.length - 1) = ((b.st.getD r nul).row.tail.length : Nat) := fun _ => by
    rw [w32_id (by omega) (by omega)]; omega
  have a2 : ∀ _u : Unit, w32 (offR b.st r + 1) = offR b.st r + 1 := fun _ => w32_id (by omega) (by omega)
  have a3 : ∀ _u : Unit, w32 (w32 (offR b.st r + 1 + (((b.st.getD r nul).row.tail.length : Nat) : Int)) - 1) = offR b.st r + 1 + (((b.st.getD r nul).row.tail.length - 1 : Nat) : Int) := fun _ => by
    rw [w32_id (x := offR b.st r + 1 + (((b.st.getD r nul).row.tail.length : Nat) : Int)) (by omega) (by omega), w32_id (by omega) (by omega)]; omega
  have a4 : ∀ _u : Unit, w32 ((e : Int) - i) = (e : Int) - i := fun _ => w32_id (by omega) (by omega)
  have a5 : ∀ _u : Unit, w32 ((e : Int) - 1) = (e : Int) - 1 := fun _ => w32_id (by omega) (by omega)
  have e0' : N 660 (offR b.st r + 1) = (b.st.getD r nul).row.tail.getD 0 0 := by rw [← e0]; congr 1
  have cr : (0 : Int) ≤ (r : Int) ∧ (r : Int) < 1501 := ⟨by omega, by omega⟩
  have hq : Ev (m_match n r i e N) (fun _ M => FrL L736 N M ∧ TfM b W (wS ws) (b.st.getD r nul).row.tail i e ((b.st.getD r nul).row.tail.length + 1) M) := by
    unfold m_match
    rw [ck_pos cr, ck_pos cr, p2, p1, a1 (), a2 (), a4 (), if_neg (by omega), ck_pos ⟨by omega, by omega⟩, e0', ck_pos ⟨by omega, by omega⟩, v0, a3 (), a5 ()]
    refine ev_xj (fun J => Ev (J N) (fun _ M => FrL L736 N M ∧ TfM b W (wS ws) (b.st.getD r nul).row.tail i e ((b.st.getD r nul).row.tail.length + 1) M)) ?_ fun J hJ => ?_
    · dsimp only
      rw [ck_pos ⟨by omega, by omega⟩, e9, ck_pos ⟨by omega, by omega⟩, v9]
      refine ev_xj (fun J => Ev (J N) (fun _ M => FrL L736 N M ∧ TfM b W (wS ws) (b.st.getD r nul).row.tail i e ((b.st.getD r nul).row.tail.length + 1) M)) go fun J hJ => ?_
      by_cases c9 : b.con ((b.st.getD r nul).row.tail.getD ((b.st.getD r nul).row.tail.length - 1) 0) = true
      · rw [if_pos c9, if_pos rfl, ck_pos ⟨by omega, by omega⟩, ck_pos ⟨by omega, by omega⟩, if_pos (t9 c9)]
        exact hJ
      · rw [if_neg c9, if_neg (by decide)]
        exact hJ
    · by_cases c0 : b.con ((b.st.getD r nul).row.tail.getD 0 0) = true
      · rw [if_pos c0, if_pos rfl, ck_pos ⟨by omega, by omega⟩, ck_pos ⟨by omega, by omega⟩, if_pos (t0 c0)]
        exact hJ
      · rw [if_neg c0, if_neg (by decide)]
        exact hJ
  rw [← hX]
  exact hq
end MM3
