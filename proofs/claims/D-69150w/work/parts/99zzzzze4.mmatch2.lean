/-! fronts of one rule's symbols over a stretch: the model, whole -/
section MM2
variable {b : Lb} {lim : Int} {ws : List Int} {W : Int → Int → Int → Nat} {N : NW}
/-- the next row, from places before v -/
def nAA (b : Lb) (W : Int → Int → Int → Nat) (w : Int → Int) (i l : Nat) (G : Nat → Nat) (s : Int) (v q : Nat) : Nat := if b.con s = true then (if i < q ∧ q ≤ v ∧ w ((q - 1 : Nat) : Int) = s then G (q - 1) else 0) else (if q ≤ l then cap2 (sumR (fun p => if p < (q : Int) then G p.toNat * W (b.typ s) p q else 0) i (v - i)) else 0)
theorem mm_l198 {v5 : Int} {K : Int → NW → OR} {Q : Int → NW → Prop} {N0 : NW} {G : Nat → Nat} {i e k m l : Nat} {s : Int} (h : MTe b lim ws W N0) (hs : 0 ≤ s ∧ s < b.sy.length) (ht : b.con s = false → b.typ s ∈ sM b) (he : e ≤ ws.length) (hk : 1 ≤ k ∧ k ≤ m) (hm : m ≤ 59) (hl : l + (m - k) = e) (hG : ∀ q : Nat, i ≤ q → q ≤ e → N0 736 (61 * ((k - 1 : Nat) : Int) + q) = (G q : Nat) ∧ G q ≤ 2) (hK : ∀ M (v : Int), FrL L736 N0 M → RoM i e k (nAA b W (wS ws) i l G s e) N0 M → (∀ p : Nat, i ≤ p → p < e → 0 < G p → (b.con s = true → wS ws p = s → 1 ≤ v) ∧ (b.con s = false → ∀ q : Nat, p < q → q ≤ l → 0 < W (b.typ s) p q → 1 ≤ v)) → Ev (K v M) Q) : ∀ (d n v : Nat) (v8 : Int) (N : NW), v + d = e → i ≤ v → d + 100 < n → FrL L736 N0 N → RoM i e k (nAA b W (wS ws) i l G s v) N0 N → (0 ≤ v8 ∧ v8 ≤ 130 * ((v : Int) - i)) → (∀ p : Nat, i ≤ p → p < v → 0 < G p → (b.con s = true → wS ws p = s → 1 ≤ v8) ∧ (b.con s = false → ∀ q : Nat, p < q → q ≤ l → 0 < W (b.typ s) p q → 1 ≤ v8)) → Ev (m_match_l198 i e m v5 k s K n v8 v N) Q := by
  have hz := h.hz
  have wf := h.hb.wf
  have nl := wf.nl
  have ty := wf.ty s
  intro d
  induction d with
  | zero =>
    intro n v v8 N hv hiv hn F hr h8 hp
    obtain ⟨n, rfl⟩ : ∃ k, n = k + 1 := ⟨n - 1, by omega⟩
    have eve : v = e := by omega
    rw [m_match_l198, if_pos (by omega)]
    rw [eve] at hr hp
    exact hK N v8 F hr hp
  | succ d ih =>
    intro n v v8 N hv hiv hn F hr h8 hp
    have hN := h.fr (F.sub (by decide))
    have ew : ∀ _u : Unit, w32 (w32 (61 * w32 ((k : Int) - 1)) + (v : Int)) = 61 * ((k - 1 : Nat) : Int) + v := fun _ => by
      rw [w32_id (x := (k : Int) - 1) (by omega) (by omega), w32_id (x := 61 * ((k : Int) - 1)) (by omega) (by omega), w32_id (by omega) (by omega)]
      omega
    have hg := hG v hiv (by omega)
    have eg : N 736 (61 * ((k - 1 : Nat) : Int) + v) = (G v : Nat) := by rw [hr.o _ (by omega)]; exact hg.1
    have g2 := hg.2
    obtain ⟨sn, hsn⟩ := Int.eq_ofNat_of_zero_le hs.1
    have v652 : N 652 s = if b.con s = true then 0 else 1 := by rw [hsn]; exact (hN.hb.ra.v sn (by omega)).1
    have v654 : N 654 s = b.typ s := by rw [hsn]; exact (hN.hb.ra.v sn (by omega)).2
    have v719 : N 719 v = wS ws v := hN.r719 v (by omega)
    -- on with v + 1
    have e718 : b.con s = false → N 718 (b.typ s) = sIx (sM b) (b.typ s) := fun c => by
      have m := ht c
      have := hN.so.at (sM_mem.1 m).1
      rw [if_pos m] at this
      exact this
    have nx0 : G v = 0 → ∀ q, i ≤ q → q ≤ e → nAA b W (wS ws) i l G s (v + 1) q = nAA b W (wS ws) i l G s v q := fun z q h1 h2 => by
      unfold nAA
      by_cases c : b.con s = true
      · rw [if_pos c, if_pos c]
        by_cases y : q = v + 1
        · rw [y, show v + 1 - 1 = v by omega, z, if_neg (c := i < v + 1 ∧ v + 1 ≤ v ∧ _) (fun u => by omega)]
          split <;> rfl
        · exact icg ⟨fun u => ⟨u.1, by omega, u.2.2⟩, fun u => ⟨u.1, by omega, u.2.2⟩⟩
      · rw [if_neg c, if_neg c]
        by_cases y : q ≤ l
        · rw [if_pos y, if_pos y, show v + 1 - i = (v - i) + 1 by omega]
          show cap2 (sumR _ i (v - i) + (if (i : Int) + ((v - i : Nat) : Int) < q then G ((i : Int) + ((v - i : Nat) : Int)).toNat * _ else 0)) = _
          rw [show ((i : Int) + ((v - i : Nat) : Int)) = (v : Int) by omega, Int.toNat_natCast, z, Nat.zero_mul]
          split <;> rw [Nat.add_zero]
        · rw [if_neg y, if_neg y]
    have go : ∀ (n : Nat) (r : Int) (M : NW), d + 100 < n → FrL L736 N0 M → RoM i e k (nAA b W (wS ws) i l G s (v + 1)) N0 M → (v8 ≤ r ∧ r ≤ v8 + 130) → (0 < G v → (b.con s = true → wS ws v = s → 1 ≤ r) ∧ (b.con s = false → ∀ q : Nat, v < q → q ≤ l → 0 < W (b.typ s) v q → 1 ≤ r)) → Ev (m_match_l198 i e m v5 k s K n r (w32 ((v : Int) + 1)) M) Q := fun n r M hn2 FM hM hr2 hq => by
      rw [w32_id (x := (v : Int) + 1) (by omega) (by omega)]
      refine ih n (v + 1) r M (by omega) (by omega) hn2 FM hM ⟨by omega, by omega⟩ fun p h1 h2 h3 => ?_
      by_cases c : p = v
      · rw [c] at h3 ⊢; exact hq h3
      · have := hp p h1 (by omega) h3
        exact ⟨fun a b => by have := this.1 a b; omega, fun a q b c d => by have := this.2 a q b c d; omega⟩
    obtain ⟨n, rfl⟩ : ∃ k, n = k + 1 := ⟨n - 1, by omega⟩
    rw [m_match_l198, if_neg (by omega), ew (), ck_pos ⟨by omega, by omega⟩, eg, lt_eq, lt_eq]
    by_cases z : G v = 0
    · rw [if_pos (by omega)]
      exact go n v8 N (by omega) F (hr.cg (nx0 z)) ⟨Int.le_refl _, by omega⟩ (fun y => by omega)
    have cs : (0 : Int) ≤ s ∧ s < 1001 := ⟨hs.1, by omega⟩
    rw [if_neg (by omega), ck_pos cs, v652]
    by_cases c : b.con s = true
    · have ew2 : ∀ _u : Unit, w32 (w32 (w32 (61 * (k : Int)) + (v : Int)) + 1) = 61 * (k : Int) + ((v + 1 : Nat) : Int) := fun _ => by
        rw [w32_id (x := 61 * (k : Int)) (by omega) (by omega), w32_id (x := 61 * (k : Int) + (v : Int)) (by omega) (by omega), w32_id (by omega) (by omega)]
        omega
      have old := hr.a (v + 1) (by omega) (by omega)
      have e0 : nAA b W (wS ws) i l G s v (v + 1) = 0 := by unfold nAA; rw [if_pos c, if_neg (fun u => by omega)]
      rw [e0] at old
      have ca : (0 : Int) ≤ 61 * (k : Int) + ((v + 1 : Nat) : Int) ∧ 61 * (k : Int) + ((v + 1 : Nat) : Int) < 3800 := ⟨by omega, by omega⟩
      rw [if_pos c, if_pos rfl, ew2 (), ck_pos ca, ck_pos ⟨by omega, by omega⟩, ck_pos ca, old.1, v719, lt_eq, ck_pos ⟨by omega, by omega⟩, up2_na (show (719 : Nat) ≠ 736 by decide), v719, lt_eq]
      have fin : ∀ g : Nat, g ≤ 2 → (g = if wS ws v = s then G v else 0) → RoM i e k (nAA b W (wS ws) i l G s (v + 1)) N0 (up2 N 736 (61 * (k : Int) + ((v + 1 : Nat) : Int)) (g : Nat)) := fun g h2 hg => (hr.put (q0 := v + 1) (v := g) h2).cg fun q h1 h3 => by
        unfold nAA
        rw [if_pos c, if_pos c]
        by_cases y : q = v + 1
        · rw [if_pos y, y, show v + 1 - 1 = v by omega, hg]
          exact icg ⟨fun u => u.2.2, fun u => ⟨by omega, Nat.le_refl _, u⟩⟩
        · rw [if_neg y]
          exact icg ⟨fun u => ⟨u.1, by omega, u.2.2⟩, fun u => ⟨u.1, by omega, u.2.2⟩⟩
      by_cases y : wS ws v = s
      · rw [if_pos y, if_pos y, w32_id (x := ((0 : Nat) : Int) + (G v : Nat)) (by omega) (by omega), show ((0 : Nat) : Int) + (G v : Nat) = (G v : Nat) by omega, w32_id (x := v8 + 1) (by omega) (by omega)]
        exact go n _ _ (by omega) (F.up rfl) (fin (G v) g2 (by rw [if_pos y])) ⟨by omega, by omega⟩ (fun _ => ⟨fun _ _ => by omega, fun x => by rw [c] at x; cases x⟩)
      · rw [if_neg y, if_neg y, w32_id (x := ((0 : Nat) : Int) + 0) (by omega) (by omega), show ((0 : Nat) : Int) + 0 = ((0 : Nat) : Int) by omega, w32_id (x := v8 + 0) (by omega) (by omega)]
        exact go n _ _ (by omega) (F.up rfl) (fin 0 (by omega) (by rw [if_neg y])) ⟨by omega, by omega⟩ (fun _ => ⟨fun _ u => absurd u y, fun x => by rw [c] at x; cases x⟩)
    · have c' : b.con s = false := by simpa using c
      have tm := ht c'
      have tr := (sM_mem.1 tm).1
      have el : ∀ _u : Unit, (if (m : Int) = 1 then (e : Int) else w32 ((e : Int) - w32 ((m : Int) - (k : Int)))) = (l : Int) := fun _ => by
        rw [w32_id (x := (m : Int) - (k : Int)) (by omega) (by omega), w32_id (by omega) (by omega)]
        by_cases y : (m : Int) = 1
        · rw [if_pos y]; omega
        · rw [if_neg y]; omega
      rw [if_neg c, if_neg (by decide), ck_pos cs, v654, ck_pos ⟨tr.1, by omega⟩, el (), lt_eq, e718 c', w32_id (x := (v : Int) + 1) (by omega) (by omega)]
      have e1 : ∀ q : Nat, nAA b W (wS ws) i l G s (v + 1) q = if v < q ∧ q ≤ l then cap2 (nAA b W (wS ws) i l G s v q + G v * W (b.typ s) v q) else nAA b W (wS ws) i l G s v q := fun q => by
        unfold nAA
        rw [if_neg c, if_neg c]
        by_cases y : q ≤ l
        · rw [if_pos y, if_pos y, show v + 1 - i = (v - i) + 1 by omega]
          show cap2 (sumR _ i (v - i) + (if (i : Int) + ((v - i : Nat) : Int) < q then G ((i : Int) + ((v - i : Nat) : Int)).toNat * W (b.typ s) ((i : Int) + ((v - i : Nat) : Int)) q else 0)) = _
          rw [show ((i : Int) + ((v - i : Nat) : Int)) = (v : Int) by omega, Int.toNat_natCast]
          by_cases x : v < q
          · rw [if_pos (show (v : Int) < q by omega), if_pos ⟨x, y⟩, cap2_cap]
          · rw [if_neg (show ¬ (v : Int) < q by omega), if_neg (fun u => x u.1), Nat.add_zero]
        · rw [if_neg y, if_neg y, if_neg (fun u => y u.2)]
      by_cases vl : v ≤ l
      · refine mm_l339 (N0 := N) (A0 := nAA b W (wS ws) i l G s v) (i := i) (e := e) (k := k) (p := v) (g := G v) (l := l) (B := v8 + 130) (lo := v8) (by omega) h8.1 hN tm he (by omega) hiv (by omega) g2 (fun M r FM hM hr2 hq => ?_) (l - v) n (v + 1) v8 N (by omega) (by omega) (by omega) (FrL.refl _ _) (RoM.cg (N0 := N) ⟨hr.a, fun _ _ => rfl⟩ fun q h1 h2 => by rw [if_neg (fun u => by omega)]) ⟨Int.le_refl _, by omega⟩ (fun q h1 h2 => by omega)
        have R1 : RoM i e k (nAA b W (wS ws) i l G s (v + 1)) N0 M := ⟨fun q h1 h2 => by rw [e1 q]; exact hM.a q h1 h2, fun x hx => (hM.o x hx).trans (hr.o x hx)⟩
        have fin := go n r M (by omega) (F.trans' FM) R1 hr2 (fun _ => ⟨fun x => absurd x c, fun _ q h1 h2 h3 => hq q h1 h2 h3⟩)
        rw [w32_id (x := (v : Int) + 1) (by omega) (by omega)] at fin
        exact fin
      · obtain ⟨n2, hn2⟩ : ∃ n2, n = n2 + 1 := ⟨n - 1, by omega⟩
        have en : ∀ K2 : Int → NW → OR, m_match_l339 i e m v5 k s v (G v) (sIx (sM b) (b.typ s)) l K2 n v8 ((v : Int) + 1) N = K2 v8 N := fun K2 => by rw [hn2, m_match_l339, if_pos (by omega)]
        rw [en]
        have R1 : RoM i e k (nAA b W (wS ws) i l G s (v + 1)) N0 N := hr.cg fun q _ _ => by rw [e1 q, if_neg (fun u => by omega)]
        have fin := go n v8 N (by omega) F R1 ⟨Int.le_refl _, by omega⟩ (fun _ => ⟨fun x => absurd x c, fun _ q h1 h2 h3 => by omega⟩)
        rw [w32_id (x := (v : Int) + 1) (by omega) (by omega)] at fin
        exact fin
end MM2
