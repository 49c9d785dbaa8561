section
abbrev EnM (b : Lb) (rlm : List Nat) (np : Nat) (up : Nat → Nat) (hd : Nat → Int) (pt : Nat → List Int) (ls : Nat → Int) (en : Nat → Nat) (N : NW) : Prop := (∀ p : Nat, 1 ≤ p → p < np → N 730 p = (((rlm.filter fun i => decide (en i = p)).getD 0 1500 : Nat) : Int) ∧ N 731 p = (((rlm.filter fun i => decide (en i = p)).getD 1 1500 : Nat) : Int)) ∧ (∀ i ∈ rlm, (1 ≤ en i ∧ en i < np) ∧ 1 ≤ up (en i) ∧ ls (en i) ≤ (i : Nat) ∧ i < 1500) ∧ (∀ i ∈ rlm, pt (en i) = ((b.st.getD i nul).row.tail.map (scd b)).reverse ∧ hd (en i) = (b.st.getD i nul).row.getD 0 0)
set_option maxRecDepth 100000 in
theorem EnM.ed {b : Lb} {rlm : List Nat} {np : Nat} {up : Nat → Nat} {hd : Nat → Int} {pt : Nat → List Int} {ls : Nat → Int} {en : Nat → Nat} {N : NW} (h : EnM b rlm np up hd pt ls en N) : ∀ p : Nat, 1 ≤ p → p < np → N 730 p = (((rlm.filter fun i => decide (en i = p)).getD 0 1500 : Nat) : Int) ∧ N 731 p = (((rlm.filter fun i => decide (en i = p)).getD 1 1500 : Nat) : Int) := by sorry
set_option maxRecDepth 100000 in
theorem EnM.le {b : Lb} {rlm : List Nat} {np : Nat} {up : Nat → Nat} {hd : Nat → Int} {pt : Nat → List Int} {ls : Nat → Int} {en : Nat → Nat} {N : NW} (h : EnM b rlm np up hd pt ls en N) : ∀ i ∈ rlm, (1 ≤ en i ∧ en i < np) ∧ 1 ≤ up (en i) ∧ ls (en i) ≤ (i : Nat) ∧ i < 1500 := by sorry
set_option maxRecDepth 100000 in
theorem EnM.pa {b : Lb} {rlm : List Nat} {np : Nat} {up : Nat → Nat} {hd : Nat → Int} {pt : Nat → List Int} {ls : Nat → Int} {en : Nat → Nat} {N : NW} (h : EnM b rlm np up hd pt ls en N) : ∀ i ∈ rlm, pt (en i) = ((b.st.getD i nul).row.tail.map (scd b)).reverse ∧ hd (en i) = (b.st.getD i nul).row.getD 0 0 := by sorry
def unT (b : Lb) (q : St) : Bool := decide (q.row.length = 2) && !b.con (q.row.getD 1 0)
def rlT (b : Lb) (k : Nat) : List Nat := (rlF b k).filter fun i => decide ((b.st.getD i nul).row.length ≤ 60) && !unT b (b.st.getD i nul)
def rlU (b : Lb) (k : Nat) : List Nat := (rlF b k).filter fun i => decide ((b.st.getD i nul).row.length ≤ 60) && unT b (b.st.getD i nul)
abbrev GmM (b : Lb) (k np : Nat) (up : Nat → Nat) (st hd : Nat → Int) (pt : Nat → List Int) (ls : Nat → Int) (en : Nat → Nat) (N : NW) : Prop := (TrM np up st hd pt ls N) ∧ (EnM b (rlT b k) np up hd pt ls en N) ∧ (N 643 140 = (rlU b k).length) ∧ (Sg (N 735) 0 ((rlU b k).map fun (i : Nat) => (i : Int))) ∧ (∀ p, 1 ≤ p → p < np → ls p < (k : Nat)) ∧ ((np : Int) ≤ 1 + offR b.st k) ∧ (∀ p, 1 ≤ p → p < np → st p < 0 → 0 ≤ -2 - st p ∧ -2 - st p < b.sy.length)
set_option maxRecDepth 100000 in
theorem GmM.T {b : Lb} {k np : Nat} {up : Nat → Nat} {st hd : Nat → Int} {pt : Nat → List Int} {ls : Nat → Int} {en : Nat → Nat} {N : NW} (h : GmM b k np up st hd pt ls en N) : TrM np up st hd pt ls N := by sorry
set_option maxRecDepth 100000 in
theorem GmM.E {b : Lb} {k np : Nat} {up : Nat → Nat} {st hd : Nat → Int} {pt : Nat → List Int} {ls : Nat → Int} {en : Nat → Nat} {N : NW} (h : GmM b k np up st hd pt ls en N) : EnM b (rlT b k) np up hd pt ls en N := by sorry
set_option maxRecDepth 100000 in
theorem GmM.n140 {b : Lb} {k np : Nat} {up : Nat → Nat} {st hd : Nat → Int} {pt : Nat → List Int} {ls : Nat → Int} {en : Nat → Nat} {N : NW} (h : GmM b k np up st hd pt ls en N) : N 643 140 = (rlU b k).length := by sorry
set_option maxRecDepth 100000 in
theorem GmM.un {b : Lb} {k np : Nat} {up : Nat → Nat} {st hd : Nat → Int} {pt : Nat → List Int} {ls : Nat → Int} {en : Nat → Nat} {N : NW} (h : GmM b k np up st hd pt ls en N) : Sg (N 735) 0 ((rlU b k).map fun (i : Nat) => (i : Int)) := by sorry
set_option maxRecDepth 100000 in
theorem GmM.la {b : Lb} {k np : Nat} {up : Nat → Nat} {st hd : Nat → Int} {pt : Nat → List Int} {ls : Nat → Int} {en : Nat → Nat} {N : NW} (h : GmM b k np up st hd pt ls en N) : ∀ p, 1 ≤ p → p < np → ls p < (k : Nat) := by sorry
set_option maxRecDepth 100000 in
theorem GmM.nb {b : Lb} {k np : Nat} {up : Nat → Nat} {st hd : Nat → Int} {pt : Nat → List Int} {ls : Nat → Int} {en : Nat → Nat} {N : NW} (h : GmM b k np up st hd pt ls en N) : (np : Int) ≤ 1 + offR b.st k := by sorry
set_option maxRecDepth 100000 in
theorem GmM.sw {b : Lb} {k np : Nat} {up : Nat → Nat} {st hd : Nat → Int} {pt : Nat → List Int} {ls : Nat → Int} {en : Nat → Nat} {N : NW} (h : GmM b k np up st hd pt ls en N) : ∀ p, 1 ≤ p → p < np → st p < 0 → 0 ≤ -2 - st p ∧ -2 - st p < b.sy.length := by sorry
section MT2
variable {b : Lb} {N : NW} {np : Nat} {up : Nat → Nat} {st hd : Nat → Int} {pt : Nat → List Int} {ls : Nat → Int} {en : Nat → Nat} {q : St}
abbrev TwS (b : Lb) (r : Nat) (x : Int) (np0 : Nat) (up0 : Nat → Nat) (hd0 : Nat → Int) (pt0 : Nat → List Int) (ls0 : Nat → Int) (N0 : NW) (np : Nat) (up : Nat → Nat) (st hd : Nat → Int) (pt : Nat → List Int) (ls : Nat → Int) (v : Nat) (pre : List Int) (N : NW) : Prop := (TrM np up st hd pt ls N) ∧ (np0 ≤ np) ∧ (∀ p, p < np0 → up p = up0 p ∧ hd p = hd0 p ∧ pt p = pt0 p ∧ ls p = ls0 p) ∧ (∀ p, 1 ≤ p → p < np → ls p ≤ (r : Nat)) ∧ (∀ p : Nat, p < np0 → N 730 p = N0 730 p ∧ N 731 p = N0 731 p) ∧ (∀ p : Nat, np0 ≤ p → p < np → N 730 p = 1500 ∧ N 731 p = 1500) ∧ (FrL Lnn N0 N) ∧ (1 ≤ v ∧ v < np) ∧ (hd v = x) ∧ (pt v = (pre.map (scd b)).reverse) ∧ (pre ≠ [] → 1 ≤ up v) ∧ ((np : Int) ≤ 2 + offR b.st r + (pre.length : Nat)) ∧ (∀ p, 1 ≤ p → p < np → st p < 0 → 0 ≤ -2 - st p ∧ -2 - st p < b.sy.length)
set_option maxRecDepth 100000 in
theorem TwS.T {b : Lb} {r : Nat} {x : Int} {np0 : Nat} {up0 : Nat → Nat} {hd0 : Nat → Int} {pt0 : Nat → List Int} {ls0 : Nat → Int} {N0 : NW} {np : Nat} {up : Nat → Nat} {st hd : Nat → Int} {pt : Nat → List Int} {ls : Nat → Int} {v : Nat} {pre : List Int} {N : NW} (h : TwS b r x np0 up0 hd0 pt0 ls0 N0 np up st hd pt ls v pre N) : TrM np up st hd pt ls N := by sorry
set_option maxRecDepth 100000 in
theorem TwS.le {b : Lb} {r : Nat} {x : Int} {np0 : Nat} {up0 : Nat → Nat} {hd0 : Nat → Int} {pt0 : Nat → List Int} {ls0 : Nat → Int} {N0 : NW} {np : Nat} {up : Nat → Nat} {st hd : Nat → Int} {pt : Nat → List Int} {ls : Nat → Int} {v : Nat} {pre : List Int} {N : NW} (h : TwS b r x np0 up0 hd0 pt0 ls0 N0 np up st hd pt ls v pre N) : np0 ≤ np := by sorry
set_option maxRecDepth 100000 in
theorem TwS.ag {b : Lb} {r : Nat} {x : Int} {np0 : Nat} {up0 : Nat → Nat} {hd0 : Nat → Int} {pt0 : Nat → List Int} {ls0 : Nat → Int} {N0 : NW} {np : Nat} {up : Nat → Nat} {st hd : Nat → Int} {pt : Nat → List Int} {ls : Nat → Int} {v : Nat} {pre : List Int} {N : NW} (h : TwS b r x np0 up0 hd0 pt0 ls0 N0 np up st hd pt ls v pre N) : ∀ p, p < np0 → up p = up0 p ∧ hd p = hd0 p ∧ pt p = pt0 p ∧ ls p = ls0 p := by sorry
set_option maxRecDepth 100000 in
theorem TwS.la {b : Lb} {r : Nat} {x : Int} {np0 : Nat} {up0 : Nat → Nat} {hd0 : Nat → Int} {pt0 : Nat → List Int} {ls0 : Nat → Int} {N0 : NW} {np : Nat} {up : Nat → Nat} {st hd : Nat → Int} {pt : Nat → List Int} {ls : Nat → Int} {v : Nat} {pre : List Int} {N : NW} (h : TwS b r x np0 up0 hd0 pt0 ls0 N0 np up st hd pt ls v pre N) : ∀ p, 1 ≤ p → p < np → ls p ≤ (r : Nat) := by sorry
set_option maxRecDepth 100000 in
theorem TwS.e0 {b : Lb} {r : Nat} {x : Int} {np0 : Nat} {up0 : Nat → Nat} {hd0 : Nat → Int} {pt0 : Nat → List Int} {ls0 : Nat → Int} {N0 : NW} {np : Nat} {up : Nat → Nat} {st hd : Nat → Int} {pt : Nat → List Int} {ls : Nat → Int} {v : Nat} {pre : List Int} {N : NW} (h : TwS b r x np0 up0 hd0 pt0 ls0 N0 np up st hd pt ls v pre N) : ∀ p : Nat, p < np0 → N 730 p = N0 730 p ∧ N 731 p = N0 731 p := by sorry
set_option maxRecDepth 100000 in
theorem TwS.e1 {b : Lb} {r : Nat} {x : Int} {np0 : Nat} {up0 : Nat → Nat} {hd0 : Nat → Int} {pt0 : Nat → List Int} {ls0 : Nat → Int} {N0 : NW} {np : Nat} {up : Nat → Nat} {st hd : Nat → Int} {pt : Nat → List Int} {ls : Nat → Int} {v : Nat} {pre : List Int} {N : NW} (h : TwS b r x np0 up0 hd0 pt0 ls0 N0 np up st hd pt ls v pre N) : ∀ p : Nat, np0 ≤ p → p < np → N 730 p = 1500 ∧ N 731 p = 1500 := by sorry
set_option maxRecDepth 100000 in
theorem TwS.F {b : Lb} {r : Nat} {x : Int} {np0 : Nat} {up0 : Nat → Nat} {hd0 : Nat → Int} {pt0 : Nat → List Int} {ls0 : Nat → Int} {N0 : NW} {np : Nat} {up : Nat → Nat} {st hd : Nat → Int} {pt : Nat → List Int} {ls : Nat → Int} {v : Nat} {pre : List Int} {N : NW} (h : TwS b r x np0 up0 hd0 pt0 ls0 N0 np up st hd pt ls v pre N) : FrL Lnn N0 N := by sorry
set_option maxRecDepth 100000 in
theorem TwS.v1 {b : Lb} {r : Nat} {x : Int} {np0 : Nat} {up0 : Nat → Nat} {hd0 : Nat → Int} {pt0 : Nat → List Int} {ls0 : Nat → Int} {N0 : NW} {np : Nat} {up : Nat → Nat} {st hd : Nat → Int} {pt : Nat → List Int} {ls : Nat → Int} {v : Nat} {pre : List Int} {N : NW} (h : TwS b r x np0 up0 hd0 pt0 ls0 N0 np up st hd pt ls v pre N) : 1 ≤ v ∧ v < np := by sorry
set_option maxRecDepth 100000 in
theorem TwS.vh {b : Lb} {r : Nat} {x : Int} {np0 : Nat} {up0 : Nat → Nat} {hd0 : Nat → Int} {pt0 : Nat → List Int} {ls0 : Nat → Int} {N0 : NW} {np : Nat} {up : Nat → Nat} {st hd : Nat → Int} {pt : Nat → List Int} {ls : Nat → Int} {v : Nat} {pre : List Int} {N : NW} (h : TwS b r x np0 up0 hd0 pt0 ls0 N0 np up st hd pt ls v pre N) : hd v = x := by sorry
set_option maxRecDepth 100000 in
theorem TwS.vp {b : Lb} {r : Nat} {x : Int} {np0 : Nat} {up0 : Nat → Nat} {hd0 : Nat → Int} {pt0 : Nat → List Int} {ls0 : Nat → Int} {N0 : NW} {np : Nat} {up : Nat → Nat} {st hd : Nat → Int} {pt : Nat → List Int} {ls : Nat → Int} {v : Nat} {pre : List Int} {N : NW} (h : TwS b r x np0 up0 hd0 pt0 ls0 N0 np up st hd pt ls v pre N) : pt v = (pre.map (scd b)).reverse := by sorry
set_option maxRecDepth 100000 in
theorem TwS.vu {b : Lb} {r : Nat} {x : Int} {np0 : Nat} {up0 : Nat → Nat} {hd0 : Nat → Int} {pt0 : Nat → List Int} {ls0 : Nat → Int} {N0 : NW} {np : Nat} {up : Nat → Nat} {st hd : Nat → Int} {pt : Nat → List Int} {ls : Nat → Int} {v : Nat} {pre : List Int} {N : NW} (h : TwS b r x np0 up0 hd0 pt0 ls0 N0 np up st hd pt ls v pre N) : pre ≠ [] → 1 ≤ up v := by sorry
set_option maxRecDepth 100000 in
theorem TwS.nb {b : Lb} {r : Nat} {x : Int} {np0 : Nat} {up0 : Nat → Nat} {hd0 : Nat → Int} {pt0 : Nat → List Int} {ls0 : Nat → Int} {N0 : NW} {np : Nat} {up : Nat → Nat} {st hd : Nat → Int} {pt : Nat → List Int} {ls : Nat → Int} {v : Nat} {pre : List Int} {N : NW} (h : TwS b r x np0 up0 hd0 pt0 ls0 N0 np up st hd pt ls v pre N) : (np : Int) ≤ 2 + offR b.st r + (pre.length : Nat) := by sorry
set_option maxRecDepth 100000 in
theorem TwS.sw {b : Lb} {r : Nat} {x : Int} {np0 : Nat} {up0 : Nat → Nat} {hd0 : Nat → Int} {pt0 : Nat → List Int} {ls0 : Nat → Int} {N0 : NW} {np : Nat} {up : Nat → Nat} {st hd : Nat → Int} {pt : Nat → List Int} {ls : Nat → Int} {v : Nat} {pre : List Int} {N : NW} (h : TwS b r x np0 up0 hd0 pt0 ls0 N0 np up st hd pt ls v pre N) : ∀ p, 1 ≤ p → p < np → st p < 0 → 0 ≤ -2 - st p ∧ -2 - st p < b.sy.length := by sorry
set_option maxRecDepth 100000 in
theorem SbQ.least {p r : Nat} {s : Int} {c np' : Nat} {up' : Nat → Nat} {st' hd' : Nat → Int} {pt' : Nat → List Int} {ls' : Nat → Int} {M : NW} (h : SbQ p s np up st hd pt ls N c np' up' st' hd' pt' ls' M) (hr : r < 1500) (la : ∀ x, 1 ≤ x → x < np → ls x ≤ (r : Nat)) (hp : p < np) : ∃ ls2, TrM np' up' st' hd' pt' ls2 (up2 M 732 c (if M 732 c ≤ (r : Int) then M 732 c else r)) ∧ (∀ x, x < np → ls2 x = ls x) ∧ (∀ x, 1 ≤ x → x < np' → ls2 x ≤ (r : Nat)) := by sorry
set_option maxRecDepth 100000 in
theorem ev_bnN {x : OR} {f : Int → NW → OR} {P : Nat → NW → Prop} {Q : Int → NW → Prop} (h : Ev x (fun r M => ∃ c : Nat, r = (c : Nat) ∧ P c M)) (k : ∀ (c : Nat) M, P c M → Ev (f (c : Nat) M) Q) : Ev (bn x f) Q := by sorry
def msp (b : Lb) (s : Int) : Int := if b.con s = true then s else -2 - b.typ s
set_option maxRecDepth 100000 in
theorem msp_cd (wf : Wf b) {s : Int} (h : 0 ≤ s ∧ s < b.sy.length) : cdM (msp b s) = scd b s ∧ -1002 ≤ msp b s ∧ msp b s < 1001 := by sorry
set_option maxRecDepth 100000 in
theorem TwS.next {r : Nat} {x : Int} {np0 : Nat} {up0 : Nat → Nat} {hd0 : Nat → Int} {pt0 : Nat → List Int} {ls0 : Nat → Int} {N0 : NW} {v : Nat} {pre : List Int} {s : Int} (u : TwS b r x np0 up0 hd0 pt0 ls0 N0 np up st hd pt ls v pre N) (wf : Wf b) (hr : r < 1500) (hs : 0 ≤ s ∧ s < b.sy.length) (hty : b.con s = false → 0 ≤ b.typ s) {c np' : Nat} {up' : Nat → Nat} {st' hd' : Nat → Int} {pt' : Nat → List Int} {ls' : Nat → Int} {M : NW} (h : SbQ v (msp b s) np up st hd pt ls N c np' up' st' hd' pt' ls' M) : ∃ ls2, TwS b r x np0 up0 hd0 pt0 ls0 N0 np' up' st' hd' pt' ls2 c (pre ++ [s]) (up2 M 732 c (if M 732 c ≤ (r : Int) then M 732 c else r)) := by sorry
set_option maxRecDepth 100000 in
theorem TwS.lb {r : Nat} {x : Int} {np0 : Nat} {up0 : Nat → Nat} {hd0 : Nat → Int} {pt0 : Nat → List Int} {ls0 : Nat → Int} {N0 : NW} {v : Nat} {pre : List Int} (u : TwS b r x np0 up0 hd0 pt0 ls0 N0 np up st hd pt ls v pre N) (h : MLb b N0) : MLb b N := by sorry
set_option maxRecDepth 100000 in
theorem treeRule_m52 {K : Int → NW → OR} {Q : Int → NW → Prop} {i : Nat} {x : Int} {np0 : Nat} {up0 : Nat → Nat} {hd0 : Nat → Int} {pt0 : Nat → List Int} {ls0 : Nat → Int} {N0 : NW} (h : MLb b N0) (hi : i < b.st.length) (eq : b.st.getD i nul = q) (hty : ∀ s ∈ q.row, b.con s = false → 0 ≤ b.typ s) (hK : ∀ np up st hd pt ls v N, TwS b i x np0 up0 hd0 pt0 ls0 N0 np up st hd pt ls v q.row.tail N → Ev (K (v : Nat) N) Q) : ∀ (l : List Int) (n : Nat) (pre : List Int) (np : Nat) (up : Nat → Nat) (st hd : Nat → Int) (pt : Nat → List Int) (ls : Nat → Int) (v : Nat) (N : NW), l.length + 40000 < n → pre ++ l = q.row.tail → TwS b i x np0 up0 hd0 pt0 ls0 N0 np up st hd pt ls v pre N → Ev (m_treeRule_l52 i K n v (offR b.st i + 1 + (pre.length : Nat)) N) Q := by sorry
end MT2
end
section
def Ltr : List (Nat × Option Int) := [(643, some 138), (643, some 140), (643, some 141), (726, none), (727, none), (728, none), (729, none), (730, none), (731, none), (732, none), (735, none)]
set_option maxRecDepth 100000 in
theorem Lnn_tr : (Lnn.all fun q => Ltr.elem q) = true := by sorry
section MT3
variable {b : Lb} {N : NW} {np : Nat} {up : Nat → Nat} {st hd : Nat → Int} {pt : Nat → List Int} {ls : Nat → Int} {en : Nat → Nat} {q : St} {i : Nat}
set_option maxRecDepth 100000 in
theorem TrM.fr {M : NW} (h : TrM np up st hd pt ls N) (e1 : M 643 138 = N 643 138) (e6 : M 726 = N 726) (e7 : M 727 = N 727) (e8 : M 728 = N 728) (e9 : M 729 = N 729) (e2 : M 732 = N 732) : TrM np up st hd pt ls M := by sorry
set_option maxRecDepth 100000 in
theorem filt_snoc {α : Type} {p : α → Bool} {l : List α} {x : α} : (l ++ [x]).filter p = l.filter p ++ (if p x = true then [x] else []) := by sorry
set_option maxRecDepth 100000 in
theorem rlT_S (b : Lb) (k : Nat) : rlT b (k + 1) = rlT b k ++ (if isRu b (b.st.getD k nul) = true ∧ (b.st.getD k nul).row.length ≤ 60 ∧ unT b (b.st.getD k nul) = false then [k] else []) := by sorry
set_option maxRecDepth 100000 in
theorem rlU_S (b : Lb) (k : Nat) : rlU b (k + 1) = rlU b k ++ (if isRu b (b.st.getD k nul) = true ∧ (b.st.getD k nul).row.length ≤ 60 ∧ unT b (b.st.getD k nul) = true then [k] else []) := by sorry
set_option maxRecDepth 100000 in
theorem rlT_mem {k i : Nat} : i ∈ rlT b k ↔ i < k ∧ isRu b (b.st.getD i nul) = true ∧ (b.st.getD i nul).row.length ≤ 60 ∧ unT b (b.st.getD i nul) = false := by sorry
set_option maxRecDepth 100000 in
theorem rlU_mem {k i : Nat} : i ∈ rlU b k ↔ i < k ∧ isRu b (b.st.getD i nul) = true ∧ (b.st.getD i nul).row.length ≤ 60 ∧ unT b (b.st.getD i nul) = true := by sorry
set_option maxRecDepth 100000 in
theorem rlU_len (b : Lb) (k : Nat) : (rlU b k).length ≤ k := by sorry
set_option maxRecDepth 100000 in
theorem TwS.first {x : Int} (wf : Wf b) (hi : i < b.st.length) (hx : 0 ≤ x) (h : GmM b i np up st hd pt ls en N) {c np' : Nat} {up' : Nat → Nat} {st' hd' : Nat → Int} {pt' : Nat → List Int} {ls' : Nat → Int} {M : NW} (s : SbQ 0 x np up st hd pt ls N c np' up' st' hd' pt' ls' M) : ∃ ls2, TwS b i x np up hd pt ls N np' up' st' hd' pt' ls2 c [] (up2 M 732 c (if M 732 c ≤ (i : Int) then M 732 c else i)) := by sorry
set_option maxRecDepth 100000 in
theorem GmM.put {x : Int} {np' : Nat} {up' : Nat → Nat} {st' hd' : Nat → Int} {pt' : Nat → List Int} {ls' : Nat → Int} {v : Nat} {M M' : NW} (wf : Wf b) (hi : i < b.st.length) (eq : b.st.getD i nul = q) (ru : isRu b q = true) (l60 : q.row.length ≤ 60) (nu : unT b q = false) (hx : x = q.row.getD 0 0) (h : GmM b i np up st hd pt ls en N) (u : TwS b i x np up hd pt ls N np' up' st' hd' pt' ls' v q.row.tail M)
    (hM : M' = if M 730 v = 1500 then up2 M 730 v i else if M 731 v = 1500 then up2 M 731 v i else M) : GmM b (i + 1) np' up' st' hd' pt' ls' (fup en i v) M' := by sorry
set_option maxRecDepth 100000 in
theorem q_treeRule {n : Nat} (hn : 50000 ≤ n) (gf : GrF b) (hb : MLb b N) (hi : i < b.st.length) (eq : b.st.getD i nul = q) (ru : isRu b q = true) (l60 : q.row.length ≤ 60) (nu : unT b q = false) (h : GmM b i np up st hd pt ls en N) {X : OR} (hX : m_treeRule n i N = X) : Ev X (fun _ M => FrL Lnn N M ∧ ∃ np up st hd pt ls en, GmM b (i + 1) np up st hd pt ls en M) := by sorry
set_option maxRecDepth 100000 in
theorem q_isUnit {n : Nat} (hb : MLb b N) (hi : i < b.st.length) (eq : b.st.getD i nul = q) : m_isUnit n i N = some (if unT b q = true then 1 else 0, N) := by sorry
set_option maxRecDepth 100000 in
theorem GmM.next (wf : Wf b) (hi : i < b.st.length) (h : GmM b i np up st hd pt ls en N) (hT : rlT b (i + 1) = rlT b i) {M : NW} (na : ∀ a : Nat, a ≠ 643 → a ≠ 735 → M a = N a) (n8 : M 643 138 = N 643 138) (n140 : M 643 140 = (rlU b (i + 1)).length) (un : Sg (M 735) 0 ((rlU b (i + 1)).map fun (i : Nat) => (i : Int))) : GmM b (i + 1) np up st hd pt ls en M := by sorry
set_option maxRecDepth 100000 in
theorem FrL.lbT {M : NW} (F : FrL Ltr N M) (h : MLb b N) : MLb b M := by sorry
set_option maxRecDepth 100000 in
theorem treeRules_m19 {K : NW → OR} {Q : Int → NW → Prop} {N0 : NW} (gf : GrF b) (hb : MLb b N0) (hK : ∀ M np up st hd pt ls en, FrL Ltr N0 M → GmM b b.st.length np up st hd pt ls en M → Ev (K M) Q) : ∀ (d n i : Nat) (N : NW), i + d = b.st.length → d + 60000 < n → FrL Ltr N0 N → (∃ np up st hd pt ls en, GmM b i np up st hd pt ls en N) → Ev (m_treeRules_l19 K n i N) Q := by sorry
set_option maxRecDepth 100000 in
theorem q_treeRules {n : Nat} (hn : 70000 ≤ n) (gf : GrF b) (hb : MLb b N) {X : OR} (hX : m_treeRules n N = X) : Ev X (fun _ M => FrL Ltr N M ∧ M 643 141 = 1 ∧ ∃ np up st hd pt ls en, GmM b b.st.length np up st hd pt ls en M) := by sorry
end MT3
end
section
def sMq (b : Lb) (s : Nat) : Bool := b.heads.elem (s : Int) && (b.con (s : Int) && decide ((s : Int) ≠ prvN b))
def sMp (b : Lb) (k : Nat) : List Int := ((List.range k).filter (sMq b)).map fun (s : Nat) => (s : Int)
def sM (b : Lb) : List Int := sMp b b.sy.length
set_option maxRecDepth 100000 in
theorem sMp_S (b : Lb) (k : Nat) : sMp b (k + 1) = sMp b k ++ (if sMq b k = true then [(k : Int)] else []) := by sorry
set_option maxRecDepth 100000 in
theorem sMp_mem {b : Lb} {k : Nat} {s : Int} : s ∈ sMp b k ↔ ∃ t : Nat, t < k ∧ sMq b t = true ∧ (t : Int) = s := by sorry
set_option maxRecDepth 100000 in
theorem sMp_nd (b : Lb) (k : Nat) : (sMp b k).Nodup := by sorry
set_option maxRecDepth 100000 in
theorem sM_mem {b : Lb} {s : Int} : s ∈ sM b ↔ (0 ≤ s ∧ s < b.sy.length) ∧ s ∈ b.heads ∧ b.con s = true ∧ s ≠ prvN b := by sorry
set_option maxRecDepth 100000 in
theorem sM_len {b : Lb} (bg : b.begs ≤ 100) : (sM b).length ≤ 100 := by sorry
def SoP (b : Lb) (k : Nat) (N : NW) : Prop := N 643 125 = ((sMp b k).length : Nat) ∧ ∀ s : Nat, s < k → N 718 s = if (s : Int) ∈ sMp b k then sIx (sMp b k) s else -1
def SoM (b : Lb) (N : NW) : Prop := SoP b b.sy.length N
def Lfs : List (Nat × Option Int) := [(643, some 125), (718, none)]
section MSO
variable {b : Lb} {N : NW} {i : Nat} {q : St}
set_option maxRecDepth 100000 in
theorem findSorts_m7 {K : NW → OR} {Q : Int → NW → Prop} {N0 : NW} (hb : MLb b N0) (hK : ∀ M, FrL Lfs N0 M → SoM b M → Ev (K M) Q) : ∀ (d n v : Nat) (N : NW), v + d = b.sy.length → d + 10 < n → FrL Lfs N0 N → SoP b v N → Ev (m_findSorts_l7 K n v N) Q := by sorry
set_option maxRecDepth 100000 in
theorem q_findSorts {n : Nat} (hn : 2000 ≤ n) (hb : MLb b N) {X : OR} (hX : m_findSorts n N = X) : Ev X (fun _ M => FrL Lfs N M ∧ SoM b M) := by sorry
abbrev GrG (b : Lb) : Prop := (GrF b) ∧ (∀ i : Nat, i < b.st.length → ∀ k : Nat, 1 ≤ k → k < (b.st.getD i nul).row.length → (b.con ((b.st.getD i nul).row.getD k 0) = true → (b.st.getD i nul).flo.getD k 0 = -1) ∧ (b.con ((b.st.getD i nul).row.getD k 0) = false → (0 ≤ (b.st.getD i nul).flo.getD k 0 ∧ (b.st.getD i nul).flo.getD k 0 ≤ (i : Nat)) ∧ (b.s ((b.st.getD i nul).flo.getD k 0)).kind = 0 ∧ rvr b ((b.st.getD i nul).flo.getD k 0) = (b.st.getD i nul).row.getD k 0))
set_option maxRecDepth 100000 in
theorem GrG.gf {b : Lb} (h : GrG b) : GrF b := by sorry
set_option maxRecDepth 100000 in
theorem GrG.fo {b : Lb} (h : GrG b) : ∀ i : Nat, i < b.st.length → ∀ k : Nat, 1 ≤ k → k < (b.st.getD i nul).row.length → (b.con ((b.st.getD i nul).row.getD k 0) = true → (b.st.getD i nul).flo.getD k 0 = -1) ∧ (b.con ((b.st.getD i nul).row.getD k 0) = false → (0 ≤ (b.st.getD i nul).flo.getD k 0 ∧ (b.st.getD i nul).flo.getD k 0 ≤ (i : Nat)) ∧ (b.s ((b.st.getD i nul).flo.getD k 0)).kind = 0 ∧ rvr b ((b.st.getD i nul).flo.getD k 0) = (b.st.getD i nul).row.getD k 0) := by sorry
abbrev MRw (b : Lb) (ws : List Int) (N : NW) : Prop := (SoM b N) ∧ (N 643 121 = (ws.length : Nat)) ∧ (∀ p : Nat, p < ws.length → N 719 p = wS ws p) ∧ (∀ p : Nat, p < ws.length → N 720 p = lfI b (sM b) ws p)
set_option maxRecDepth 100000 in
theorem MRw.so {b : Lb} {ws : List Int} {N : NW} (h : MRw b ws N) : SoM b N := by sorry
set_option maxRecDepth 100000 in
theorem MRw.n121 {b : Lb} {ws : List Int} {N : NW} (h : MRw b ws N) : N 643 121 = (ws.length : Nat) := by sorry
set_option maxRecDepth 100000 in
theorem MRw.r719 {b : Lb} {ws : List Int} {N : NW} (h : MRw b ws N) : ∀ p : Nat, p < ws.length → N 719 p = wS ws p := by sorry
set_option maxRecDepth 100000 in
theorem MRw.r720 {b : Lb} {ws : List Int} {N : NW} (h : MRw b ws N) : ∀ p : Nat, p < ws.length → N 720 p = lfI b (sM b) ws p := by sorry
set_option maxRecDepth 100000 in
theorem SoM.at (h : SoM b N) {s : Int} (h0 : 0 ≤ s ∧ s < b.sy.length) : N 718 s = if s ∈ sM b then sIx (sM b) s else -1 := by sorry
set_option maxRecDepth 100000 in
theorem SoM.fr {M : NW} (h : SoM b N) (e1 : M 643 125 = N 643 125) (e2 : M 718 = N 718) : SoM b M := by sorry
set_option maxRecDepth 100000 in
theorem lfT_sM (wf : Wf b) (gf : GrF b) {s : Int} (hs : 0 ≤ s ∧ s < b.sy.length) (h : 0 ≤ lfT b s) : lfT b s ∈ sM b := by sorry
def Ltk : List (Nat × Option Int) := [(643, some 121), (643, some 125), (718, none), (719, none), (720, none), (721, none)]
set_option maxRecDepth 100000 in
theorem takeStatement_m18 {K : NW → OR} {Q : Int → NW → Prop} {N0 : NW} (gg : GrG b) (hb : MLb b N0) (so : SoM b N0) (hi : i < b.st.length) (eq : b.st.getD i nul = q) (l60 : q.row.length ≤ 60) (n121 : N0 643 121 = (q.row.tail.length : Nat)) (hK : ∀ M, FrL [(719, none), (720, none), (721, none)] N0 M → MRw b q.row.tail M → (∀ p : Nat, p < q.row.tail.length → M 721 p = q.flo.getD (p + 1) 0) → Ev (K M) Q) : ∀ (d n v : Nat) (N : NW), v + d = q.row.tail.length → d + 10 < n → FrL [(719, none), (720, none), (721, none)] N0 N → (∀ p : Nat, p < v → N 719 p = wS q.row.tail p ∧ N 720 p = lfI b (sM b) q.row.tail p ∧ N 721 p = q.flo.getD (p + 1) 0) → Ev (m_takeStatement_l18 i K n v N) Q := by sorry
set_option maxRecDepth 100000 in
theorem q_takeStatement {n : Nat} (hn : 3000 ≤ n) (gg : GrG b) (hb : MLb b N) (hi : i < b.st.length) (eq : b.st.getD i nul = q) (l60 : q.row.length ≤ 60) {X : OR} (hX : m_takeStatement n i N = X) : Ev X (fun _ M => FrL Ltk N M ∧ MRw b q.row.tail M ∧ ∀ p : Nat, p < q.row.tail.length → M 721 p = q.flo.getD (p + 1) 0) := by sorry
set_option maxRecDepth 100000 in
theorem q_treeSort {n : Nat} {x : Int} (hb : MLb b N) (so : SoM b N) (hx : x ∈ b.heads) : m_treeSort n x N = some (if 0 ≤ srt b x ∧ srt b x ∈ sM b then sIx (sM b) (srt b x) else -1, N) := by sorry
end MSO
end
section
set_option maxRecDepth 100000 in
theorem bt_tb {x : Int} {j : Nat} (hj : j < 64) : bt x j = 1 ↔ (B64 x).getLsbD j = true := by sorry
set_option maxRecDepth 100000 in
theorem l64_0 {x : Int} (hx : -9223372036854775808 ≤ x ∧ x < 9223372036854775808) : x = 0 ↔ ∀ k : Nat, k < 64 → ¬ bt x k = 1 := by sorry
set_option maxRecDepth 100000 in
theorem lAnd_b {x y : Int} {k : Nat} (hk : k < 64) : bt (lAnd x y) k = 1 ↔ bt x k = 1 ∧ bt y k = 1 := by sorry
set_option maxRecDepth 100000 in
theorem lAnd_0 {x y : Int} : lAnd x y = 0 ↔ ∀ k : Nat, k < 64 → ¬ (bt x k = 1 ∧ bt y k = 1) := by sorry
set_option maxRecDepth 100000 in
theorem low1 {x : Int} {j : Nat} (hj : j < 64) (h1 : (B64 x).getLsbD j = true) (h0 : ∀ i, i < j → (B64 x).getLsbD i = false) {k : Nat} (hk : k < 64) : (B64 (w64 (x - 1))).getLsbD k = if k < j then true else if k = j then false else (B64 x).getLsbD k := by sorry
set_option maxRecDepth 100000 in
theorem two_bits {a : Int} (ha : -9223372036854775808 ≤ a ∧ a < 9223372036854775808) (h : a ≠ 0) : lAnd a (w64 (a - 1)) = 0 ↔ ∀ k l : Nat, k < 64 → l < 64 → bt a k = 1 → bt a l = 1 → k = l := by sorry
set_option maxRecDepth 100000 in
theorem sumR_split {f : Int → Nat} {i : Int} : ∀ (m n : Nat), sumR f i (n + m) = sumR f i n + sumR f (i + (n : Int)) m := by sorry
set_option maxRecDepth 100000 in
theorem sumR_win {f : Int → Nat} {i n m : Nat} (h : i + n ≤ m) (h0 : ∀ p : Int, 0 ≤ p → p < (m : Nat) → ¬ ((i : Int) ≤ p ∧ p < (i : Int) + (n : Int)) → f p = 0) : sumR f 0 m = sumR f i n := by sorry
set_option maxRecDepth 100000 in
theorem sumR_one {f : Int → Nat} {m p : Nat} (hp : p < m) (h0 : ∀ q : Nat, q < m → q ≠ p → f (q : Nat) = 0) : sumR f 0 m = f (p : Nat) := by sorry
set_option maxRecDepth 100000 in
theorem sumR_ge {f : Int → Nat} : ∀ {m p : Nat}, p < m → f (p : Nat) ≤ sumR f 0 m := by sorry
set_option maxRecDepth 100000 in
theorem sumR_ge2 {f : Int → Nat} : ∀ {m p q : Nat}, p < q → q < m → f (p : Nat) + f (q : Nat) ≤ sumR f 0 m := by sorry
set_option maxRecDepth 100000 in
theorem lOr_r (x y : Int) : -9223372036854775808 ≤ lOr x y ∧ lOr x y < 9223372036854775808 := by sorry
def B2 (x y : Int) (k v : Nat) : Prop := v ≤ 2 ∧ bt x k = (if 1 ≤ v then 1 else 0) ∧ bt y k = (if 2 ≤ v then 1 else 0)
set_option maxRecDepth 100000 in
theorem B2.one {x y : Int} {k v : Nat} (h : B2 x y k v) : bt x k = 1 ↔ 1 ≤ v := by sorry
set_option maxRecDepth 100000 in
theorem B2.two {x y : Int} {k v : Nat} (h : B2 x y k v) : bt y k = 1 ↔ 2 ≤ v := by sorry
def FrM (N : NW) (np : Nat) (fr : Nat → Nat → Nat) : Prop := ∀ c : Nat, 1 ≤ c → c < np → (-9223372036854775808 ≤ N 733 c ∧ N 733 c < 9223372036854775808) ∧ ∀ y : Nat, y < 64 → B2 (N 733 c) (N 734 c) y (fr c y)
def StG (b : Lb) (sz : Nat) (N : NW) (S : Int → Nat → Nat → Nat) : Prop := ∀ s ∈ sM b, ∀ j : Nat, j ≤ sz → ∀ y : Nat, y < 64 → B2 (N 724 (61 * sIx (sM b) s + j)) (N 725 (61 * sIx (sM b) s + j)) y (S s y j)
def frS (fr : Nat → Nat → Nat) (c j v : Nat) : Nat → Nat → Nat := fun d y => if d = c ∧ y = j then v else fr d y
def gtV (b : Lb) (fr : Nat → Nat → Nat) (S : Int → Nat → Nat → Nat) (w : Int → Int) (u : Nat) (s : Int) (j : Nat) : Nat := if 0 ≤ s then (if w ((j - 1 : Nat) : Int) = s then fr u (j - 1) else 0) else if -2 - s ∈ sM b then cap2 (sumR (fun p => fr u p.toNat * S (-2 - s) p.toNat j) 0 64) else 0
set_option maxRecDepth 100000 in
theorem FrM.cg {N : NW} {np : Nat} {f g : Nat → Nat → Nat} (h : FrM N np f) (k : ∀ p, 1 ≤ p → p < np → ∀ y, y < 64 → g p y = f p y) : FrM N np g := by sorry
set_option maxRecDepth 100000 in
theorem FrM.fr {N N' : NW} {np : Nat} {f : Nat → Nat → Nat} (h : FrM N np f) (e4 : N' 733 = N 733) (e5 : N' 734 = N 734) : FrM N' np f := by sorry
set_option maxRecDepth 100000 in
theorem StG.fr {b : Lb} {sz : Nat} {N N' : NW} {S : Int → Nat → Nat → Nat} (h : StG b sz N S) (e4 : N' 724 = N 724) (e5 : N' 725 = N 725) : StG b sz N' S := by sorry
section GOT
variable {b : Lb} {np : Nat} {up : Nat → Nat} {st hd : Nat → Int} {pt : Nat → List Int} {ls : Nat → Int} {N : NW}
def Lfr : List (Nat × Option Int) := [(733, none), (734, none)]
set_option maxRecDepth 100000 in
theorem FrM.put {fr : Nat → Nat → Nat} (h : FrM N np fr) {c j v : Nat} {x : Int} (hj : j < 64) (h0 : fr c j = 0) (hv : v = 1 ∨ v = 2) (hx : ∀ y : Nat, y < 64 → bt x y = if y = j ∧ v = 2 then 1 else 0) : FrM (up2 (up2 N 733 c (lOr (N 733 c) (lShl 1 j))) 734 c (lOr (N 734 c) x)) np (frS fr c j v) := by sorry
set_option maxRecDepth 100000 in
theorem q_goTo {n c u j sz : Nat} {w : Int → Int} {fr : Nat → Nat → Nat} {S : Int → Nat → Nat → Nat} (bg : b.begs ≤ 100) (T : TrM np up st hd pt ls N) (hsw : st c < 0 → 0 ≤ -2 - st c ∧ -2 - st c < b.sy.length) (nl : b.sy.length ≤ 1000) (so : SoM b N) (hf : FrM N np fr) (hS : StG b sz N S) (hsz : sz ≤ 59) (row : ∀ p : Nat, p < sz → N 719 p = w p) (c1 : 1 ≤ c) (cn : c < np) (hu : up c = u) (u1 : 1 ≤ u) (j1 : 1 ≤ j) (jz : j ≤ sz) (h0 : fr c j = 0) : ∃ M, m_goTo n c j N = some (0, M) ∧ FrL Lfr N M ∧ FrM M np (frS fr c j (gtV b fr S w u (st c) j)) := by sorry
end GOT
end
section
set_option maxRecDepth 100000 in
theorem q_mway {n : Nat} {k p q : Int} {N : NW} (h0 : 0 ≤ k ∧ k ≤ 100) (h1 : 0 ≤ p ∧ p ≤ 60) (h2 : 0 ≤ q ∧ q ≤ 60) : m_wayAt n k p q N = some ((k * 61 + p) * 61 + q, N) := by sorry
set_option maxRecDepth 100000 in
theorem q_mcap {n a : Nat} {N : NW} : m_capped n (a : Int) N = some (((cap2 a : Nat) : Int), N) := by sorry
abbrev CtM (b : Lb) (sz : Nat) (W : Int → Int → Int → Nat) (N : NW) : Prop := (∀ s ∈ sM b, ∀ p q : Nat, p < q → q ≤ sz → N 722 ((sIx (sM b) s * 61 + p) * 61 + q) = (W s p q : Nat)) ∧ (∀ s p q : Int, s ∉ sM b → W s p q = 0) ∧ (∀ s p q : Int, W s p q ≤ 2)
set_option maxRecDepth 100000 in
theorem CtM.ct {b : Lb} {sz : Nat} {W : Int → Int → Int → Nat} {N : NW} (h : CtM b sz W N) : ∀ s ∈ sM b, ∀ p q : Nat, p < q → q ≤ sz → N 722 ((sIx (sM b) s * 61 + p) * 61 + q) = (W s p q : Nat) := by sorry
set_option maxRecDepth 100000 in
theorem CtM.ou {b : Lb} {sz : Nat} {W : Int → Int → Int → Nat} {N : NW} (h : CtM b sz W N) : ∀ s p q : Int, s ∉ sM b → W s p q = 0 := by sorry
set_option maxRecDepth 100000 in
theorem CtM.w2 {b : Lb} {sz : Nat} {W : Int → Int → Int → Nat} {N : NW} (h : CtM b sz W N) : ∀ s p q : Int, W s p q ≤ 2 := by sorry
set_option maxRecDepth 100000 in
theorem CtM.fr {b : Lb} {sz : Nat} {W : Int → Int → Int → Nat} {N M : NW} (h : CtM b sz W N) (e : M 722 = N 722) : CtM b sz W M := by sorry
def ruR (b : Lb) (i : Nat) : Rl := ((i : Int), (b.st.getD i nul).row.getD 0 0, (b.st.getD i nul).row.tail.map (scd b))
def rsL (b : Lb) (lim : Int) : List Nat := (rlF b b.st.length).filter fun i => decide ((b.st.getD i nul).row.length ≤ 60 ∧ (i : Int) < lim)
def rsB (b : Lb) (lim : Int) : List Rl := (rsL b lim).map (ruR b)
set_option maxRecDepth 100000 in
theorem rsL_mem {b : Lb} {lim : Int} {i : Nat} : i ∈ rsL b lim ↔ (i < b.st.length ∧ isRu b (b.st.getD i nul) = true) ∧ (b.st.getD i nul).row.length ≤ 60 ∧ (i : Int) < lim := by sorry
set_option maxRecDepth 100000 in
theorem ru_ty {b : Lb} {i : Nat} {q : St} (gf : GrF b) (wf : Wf b) (hi : i < b.st.length) (eq : b.st.getD i nul = q) (ru : isRu b q = true) : ∀ s ∈ q.row, b.con s = false → 0 ≤ b.typ s ∧ b.typ s ∈ sM b := by sorry
set_option maxRecDepth 100000 in
theorem ru_hd {b : Lb} {i : Nat} {q : St} (wf : Wf b) (hi : i < b.st.length) (eq : b.st.getD i nul = q) (ru : isRu b q = true) : q.row.getD 0 0 ∈ sM b := by sorry
set_option maxRecDepth 100000 in
theorem unT_is {b : Lb} {i : Nat} {q : St} (gf : GrF b) (wf : Wf b) (hi : i < b.st.length) (eq : b.st.getD i nul = q) (ru : isRu b q = true) : isUn (ruR b i) = unT b q := by sorry
set_option maxRecDepth 100000 in
theorem smF_map {α : Type} {F : α → Nat} {g : Nat → α} : ∀ (l : List Nat), ((l.map g).map F).sum = smF l (fun i => F (g i)) := by sorry
set_option maxRecDepth 100000 in
theorem filter_map' {α : Type} {g : Nat → α} {p : α → Bool} : ∀ (l : List Nat), (l.map g).filter p = (l.filter fun i => p (g i)).map g := by sorry
set_option maxRecDepth 100000 in
theorem row2 : ∀ {l : List Int}, l.length = 2 → l = [l.getD 0 0, l.getD 1 0] := by sorry
section MCL
variable {b : Lb} {lim : Int} {N : NW}
set_option maxRecDepth 100000 in
theorem rsB_sum {q : Rl → Bool} {F : Rl → Nat} : (((rsB b lim).filter q).map F).sum = smF (rlF b b.st.length) (fun i => if ((b.st.getD i nul).row.length ≤ 60 ∧ (i : Int) < lim) ∧ q (ruR b i) = true then F (ruR b i) else 0) := by sorry
set_option maxRecDepth 100000 in
theorem gun_B {f : Int → Nat} {s : Int} (gf : GrF b) (wf : Wf b) : gun (rsB b lim) f s = smF (rlU b b.st.length) (fun u => if (u : Int) < lim ∧ (b.st.getD u nul).row.getD 0 0 = s then f (b.typ ((b.st.getD u nul).row.getD 1 0)) else 0) := by sorry
set_option maxRecDepth 100000 in
theorem gun_B0 {f : Int → Nat} {s : Int} (gf : GrF b) (wf : Wf b) (hs : s ∉ sM b) : gun (rsB b lim) f s = 0 := by sorry
def nS' (b : Lb) (k : Nat) : Int := (sM b).getD k (-1)
set_option maxRecDepth 100000 in
theorem nS_at (k : Nat) (hk : k < (sM b).length) : nS' b k ∈ sM b ∧ sIx (sM b) (nS' b k) = k := by sorry
def GwA (b : Lb) (a : Nat) (g : Int → Nat) (N : NW) : Prop := ∀ s ∈ sM b, N a (sIx (sM b) s) = (g s : Nat) ∧ g s ≤ 2
section L
variable {i j sz : Nat} {W : Int → Int → Int → Nat}
set_option maxRecDepth 100000 in
theorem close_m3 {K : NW → OR} {Q : Int → NW → Prop} {N0 : NW} (bg : b.begs ≤ 100) (so : SoM b N0) (hC : CtM b sz W N0) (hij : i < j) (hj : j ≤ sz) (hz : sz ≤ 59) (hK : ∀ M, FrL [(743, none)] N0 M → GwA b 743 (fun s => W s i j) M → Ev (K M) Q) : ∀ (d n v : Nat) (N : NW), v + d = (sM b).length → d < n → FrL [(743, none)] N0 N → (∀ s ∈ sM b, sIx (sM b) s < (v : Int) → N 743 (sIx (sM b) s) = (W s i j : Nat)) → Ev (m_closeUnits_l3 i j lim K n v N) Q := by sorry
set_option maxRecDepth 100000 in
theorem close_m60 {K : NW → OR} {Q : Int → NW → Prop} {N0 : NW} {g : Int → Nat} (bg : b.begs ≤ 100) (so : SoM b N0) (hg : GwA b 743 g N0) (hK : ∀ M, FrL [(744, none)] N0 M → GwA b 744 g M → Ev (K M) Q) : ∀ (d n v : Nat) (N : NW), v + d = (sM b).length → d < n → FrL [(744, none)] N0 N → (∀ s ∈ sM b, sIx (sM b) s < (v : Int) → N 744 (sIx (sM b) s) = (g s : Nat)) → Ev (m_closeUnits_l60 i j lim K n v N) Q := by sorry
set_option maxRecDepth 100000 in
theorem rlU_pw (b : Lb) (k : Nat) : (rlU b k).Pairwise (· < ·) := by sorry
set_option maxRecDepth 100000 in
theorem close_m92 {K : NW → OR} {Q : Int → NW → Prop} {N0 : NW} (gf : GrF b) (hb : MLb b N0) (so : SoM b N0) (hC : CtM b sz W N0) (hij : i < j) (hj : j ≤ sz) (hz : sz ≤ 59) (n140 : N0 643 140 = ((rlU b b.st.length).length : Nat)) (un : Sg (N0 735) 0 ((rlU b b.st.length).map fun (u : Nat) => (u : Int))) {g0 : Int → Nat} (hK : ∀ M, FrL [(744, none)] N0 M → GwA b 744 (fun s => cap2 (g0 s + gun (rsB b lim) (fun t => W t i j) s)) M → Ev (K M) Q) : ∀ (l : List Nat) (n v : Nat) (pre : List Nat) (N : NW), l.length < n → pre ++ l = rlU b b.st.length → v = pre.length → FrL [(744, none)] N0 N → GwA b 744 (fun s => cap2 (g0 s + smF pre (fun u => if (u : Int) < lim ∧ (b.st.getD u nul).row.getD 0 0 = s then W (b.typ ((b.st.getD u nul).row.getD 1 0)) i j else 0))) N → Ev (m_closeUnits_l92 i j lim K n v N) Q := by sorry
def setW (b : Lb) (i j : Nat) (g : Int → Nat) (v : Int) (W : Int → Int → Int → Nat) : Int → Int → Int → Nat := fun s p q => if (s ∈ sM b ∧ sIx (sM b) s < v) ∧ p = (i : Nat) ∧ q = (j : Nat) then g s else W s p q
set_option maxRecDepth 100000 in
theorem close_m220 {K : Int → NW → OR} {Q : Int → NW → Prop} {N0 : NW} {g : Int → Nat} (bg : b.begs ≤ 100) (so : SoM b N0) (hg : GwA b 744 g N0) (hij : i < j) (hj : j ≤ sz) (hz : sz ≤ 59) (hK : ∀ M (v : Int), FrL [(722, none)] N0 M → CtM b sz (setW b i j g ((sM b).length : Nat) W) M → (v = 0 ∨ v = 1) → (v = 0 → ∀ s ∈ sM b, g s ≤ W s i j) → (v = 1 → ∃ s ∈ sM b, W s i j < g s) → Ev (K v M) Q) : ∀ (d n v : Nat) (v4 : Int) (N : NW), v + d = (sM b).length → d < n → FrL [(722, none)] N0 N → CtM b sz (setW b i j g v W) N → (v4 = 0 ∨ v4 = 1) → (v4 = 0 → ∀ s ∈ sM b, sIx (sM b) s < (v : Int) → g s ≤ W s i j) → (v4 = 1 → ∃ s ∈ sM b, W s i j < g s) → Ev (m_closeUnits_l220 i j lim K n v4 v N) Q := by sorry
end L
end MCL
end
section
set_option maxRecDepth 100000 in
theorem sumI_lt {f g : Int → Nat} : ∀ {l : List Int}, (∀ x ∈ l, f x ≤ g x) → (∃ x ∈ l, f x < g x) → (l.map f).sum < (l.map g).sum := by sorry
set_option maxRecDepth 100000 in
theorem sumI_le2 {f : Int → Nat} : ∀ {l : List Int}, (∀ x ∈ l, f x ≤ 2) → (l.map f).sum ≤ 2 * l.length := by sorry
section MC2
variable {b : Lb} {lim : Int} {N : NW} {i j sz : Nat} {W : Int → Int → Int → Nat}
def Lcl : List (Nat × Option Int) := [(722, none), (743, none), (744, none)]
set_option maxRecDepth 100000 in
theorem close_m52 {K : NW → OR} {Q : Int → NW → Prop} {N0 : NW} {W0 : Int → Int → Int → Nat} {B : Int → Nat} (gf : GrF b) (hb : MLb b N0) (so : SoM b N0) (hij : i < j) (hj : j ≤ sz) (hz : sz ≤ 59) (n140 : N0 643 140 = ((rlU b b.st.length).length : Nat)) (un : Sg (N0 735) 0 ((rlU b b.st.length).map fun (u : Nat) => (u : Int))) (hB : ∀ s, s ∉ sM b → B s = 0) (hg : GwA b 743 (fun s => cap2 (B s)) N0) (hK : ∀ M W', FrL [(722, none), (744, none)] N0 M → CtM b sz W' M → (∀ s p q : Int, ¬ (p = (i : Nat) ∧ q = (j : Nat)) → W' s p q = W0 s p q) → Lst B (gun (rsB b lim)) (fun s => W' s i j) → Ev (K M) Q) : ∀ (d n : Nat) (v4 : Int) (N : NW) (W : Int → Int → Int → Nat), (v4 = 1 ∧ 2 * (sM b).length + 1 = ((sM b).map fun s => W s i j).sum + d) ∨ v4 = 0 → 3000 + d < n → FrL [(722, none), (744, none)] N0 N → CtM b sz W N → (∀ s p q : Int, ¬ (p = (i : Nat) ∧ q = (j : Nat)) → W s p q = W0 s p q) → LowG B (gun (rsB b lim)) (fun s => W s i j) → (v4 = 0 → Lst B (gun (rsB b lim)) (fun s => W s i j)) → Ev (m_closeUnits_l52 i j lim K n v4 N) Q := by sorry
set_option maxRecDepth 100000 in
theorem q_closeUnits {n : Nat} {B : Int → Nat} (hn : 4000 ≤ n) (gf : GrF b) (hb : MLb b N) (so : SoM b N) (hij : i < j) (hj : j ≤ sz) (hz : sz ≤ 59) (n140 : N 643 140 = ((rlU b b.st.length).length : Nat)) (un : Sg (N 735) 0 ((rlU b b.st.length).map fun (u : Nat) => (u : Int))) (hC : CtM b sz W N) (hB : ∀ s : Int, W s i j = cap2 (B s)) {X : OR} (hX : m_closeUnits n i j lim N = X) : Ev X (fun _ M => FrL Lcl N M ∧ ∃ W', CtM b sz W' M ∧ (∀ s p q : Int, ¬ (p = (i : Nat) ∧ q = (j : Nat)) → W' s p q = W s p q) ∧ Lst B (gun (rsB b lim)) (fun s => W' s i j)) := by sorry
end MC2
end
section
def frT (W : Int → Int → Int → Nat) (w : Int → Int) (i : Nat) (up : Nat → Nat) (pt : Nat → List Int) (ls : Nat → Int) (lim : Int) (e c y : Nat) : Nat := if up c = 0 then (if y = i then 1 else 0) else if ls c < lim ∧ y < e then fw W w i (pt c) y else 0
def fvM (up : Nat → Nat) (st : Nat → Int) (c : Nat) : Bool := decide (up (up c) = 0) && decide (st c < 0)
section MST
variable {b : Lb} {lim : Int} {N : NW} {i j sz : Nat} {W : Int → Int → Int → Nat} {w : Int → Int} {np : Nat} {up : Nat → Nat} {st hd : Nat → Int} {pt : Nat → List Int} {ls : Nat → Int} {en : Nat → Nat}
set_option maxRecDepth 100000 in
theorem gtV_fw {c u : Nat} {fr : Nat → Nat → Nat} {S : Int → Nat → Nat → Nat} (T : TrM np up st hd pt ls N) (ou : ∀ s p q : Int, s ∉ sM b → W s p q = 0) (c1 : 1 ≤ c) (cn : c < np) (hu : up c = u) (u1 : 1 ≤ u) (hsw : st c < 0 → 0 ≤ -2 - st c) (hij : i < j) (hj : j ≤ 60) (hp : st c < 0 → ∀ y : Nat, y < 64 → fr u y * S (-2 - st c) y j = if i ≤ y ∧ y < j then fw W w i (pt u) y * W (-2 - st c) y j else 0) (h1 : 0 ≤ st c → fr u (j - 1) = fw W w i (pt u) ((j - 1 : Nat) : Int)) : gtV b fr S w u (st c) j = fw W w i (pt c) j := by sorry
def nE (b : Lb) (en : Nat → Nat) (lim : Int) (c : Nat) : Nat := ((rlT b b.st.length).filter fun r => decide (en r = c) && decide ((r : Int) < lim)).length
set_option maxRecDepth 100000 in
theorem filt_and {α : Type} {p q : α → Bool} : ∀ (l : List α), l.filter (fun x => p x && q x) = (l.filter p).filter q := by sorry
set_option maxRecDepth 100000 in
theorem nE_ends (hl : lim ≤ 1500) (E : EnM b (rlT b b.st.length) np up hd pt ls en N) {c : Nat} (c1 : 1 ≤ c) (cn : c < np) : (lim ≤ N 730 c ↔ nE b en lim c = 0) ∧ (N 730 c < lim → (lim ≤ N 731 c ↔ nE b en lim c = 1)) ∧ (N 730 c < lim → ∃ r : Nat, N 730 c = (r : Int) ∧ r ∈ rlT b b.st.length ∧ en r = c) := by sorry
def ctb (b : Lb) (W : Int → Int → Int → Nat) (w : Int → Int) (i : Nat) (hd : Nat → Int) (pt : Nat → List Int) (en : Nat → Nat) (lim : Int) (j : Nat) (s : Int) (c : Nat) : Nat := if hd c = s then nE b en lim c * fw W w i (pt c) j else 0
set_option maxRecDepth 100000 in
theorem smF_const {p : Nat → Bool} {a : Nat} : ∀ (l : List Nat), smF l (fun r => if p r = true then a else 0) = (l.filter p).length * a := by sorry
set_option maxRecDepth 100000 in
theorem gb_M {lf : Int → Int} {s : Int} (gf : GrF b) (wf : Wf b) (E : EnM b (rlT b b.st.length) np up hd pt ls en N) : gbase (rsB b lim) lf w W s i j = (if 0 ≤ s ∧ (j : Int) = (i : Nat) + 1 ∧ lf i = s then 1 else 0) + smF (List.range np) (ctb b W w i hd pt en lim j s) := by sorry
set_option maxRecDepth 100000 in
theorem nE_no (gf : GrF b) (wf : Wf b) (T : TrM np up st hd pt ls N) (E : EnM b (rlT b b.st.length) np up hd pt ls en N) {c : Nat} (c1 : 1 ≤ c) (cn : c < np) (hsw : st c < 0 → 0 ≤ -2 - st c) (h : nE b en lim c ≠ 0) : 1 ≤ up c ∧ ls c < lim ∧ (st c < 0 → fvM up st c = false) ∧ hd c ∈ sM b := by sorry
set_option maxRecDepth 100000 in
theorem str_m137 {K : Int → NW → OR} {v1 v2 v3 v4 : Int} (T : TrM np up st hd pt ls N) : ∀ (c n : Nat), c < n → 1 ≤ c → c < np → ∃ t : Nat, (1 ≤ t ∧ t < np) ∧ up t = 0 ∧ st t = hd c ∧ m_countStretch_l137 v1 v2 v3 v4 K n c N = K (t : Nat) N := by sorry
end MST
end
section
abbrev MGs (b : Lb) (ws : List Int) (np : Nat) (up : Nat → Nat) (st hd : Nat → Int) (pt : Nat → List Int) (ls : Nat → Int) (en : Nat → Nat) (N : NW) : Prop := (MLb b N) ∧ (GmM b b.st.length np up st hd pt ls en N) ∧ (MRw b ws N)
set_option maxRecDepth 100000 in
theorem MGs.hb {b : Lb} {ws : List Int} {np : Nat} {up : Nat → Nat} {st hd : Nat → Int} {pt : Nat → List Int} {ls : Nat → Int} {en : Nat → Nat} {N : NW} (h : MGs b ws np up st hd pt ls en N) : MLb b N := by sorry
set_option maxRecDepth 100000 in
theorem MGs.gm {b : Lb} {ws : List Int} {np : Nat} {up : Nat → Nat} {st hd : Nat → Int} {pt : Nat → List Int} {ls : Nat → Int} {en : Nat → Nat} {N : NW} (h : MGs b ws np up st hd pt ls en N) : GmM b b.st.length np up st hd pt ls en N := by sorry
set_option maxRecDepth 100000 in
theorem MGs.rw_ {b : Lb} {ws : List Int} {np : Nat} {up : Nat → Nat} {st hd : Nat → Int} {pt : Nat → List Int} {ls : Nat → Int} {en : Nat → Nat} {N : NW} (h : MGs b ws np up st hd pt ls en N) : MRw b ws N := by sorry
def Lcs : List (Nat × Option Int) := [(722, none), (723, none), (724, none), (725, none), (733, none), (734, none), (743, none), (744, none)]
def Lst4 : List (Nat × Option Int) := [(722, none), (723, none), (733, none), (734, none)]
set_option maxRecDepth 100000 in
theorem MGs.fr {b : Lb} {ws : List Int} {np : Nat} {up : Nat → Nat} {st hd : Nat → Int} {pt : Nat → List Int} {ls : Nat → Int} {en : Nat → Nat} {N M : NW} (h : MGs b ws np up st hd pt ls en N) (F : FrL Lcs N M) : MGs b ws np up st hd pt ls en M := by sorry
section MS2
variable {b : Lb} {lim : Int} {N : NW} {i j sz : Nat} {W0 : Int → Int → Int → Nat} {ws : List Int} {np : Nat} {up : Nat → Nat} {st hd : Nat → Int} {pt : Nat → List Int} {ls : Nat → Int} {en : Nat → Nat} {B0 : Int → Nat} {S : Int → Nat → Nat → Nat}
def frA (W : Int → Int → Int → Nat) (w : Int → Int) (i j : Nat) (up : Nat → Nat) (st : Nat → Int) (pt : Nat → List Int) (ls : Nat → Int) (lim : Int) (v c y : Nat) : Nat := if y = j ∧ (c < v ∧ up c ≠ 0 ∧ ls c < lim ∧ fvM up st c = false) then fw W w i (pt c) j else frT W w i up pt ls lim j c y
def waA (b : Lb) (W : Int → Int → Int → Nat) (w : Int → Int) (i j : Nat) (hd : Nat → Int) (pt : Nat → List Int) (en : Nat → Nat) (lim : Int) (B0 : Int → Nat) (v : Nat) : Int → Int → Int → Nat := fun s p q => if s ∈ sM b ∧ p = (i : Nat) ∧ q = (j : Nat) then cap2 (B0 s + smF (List.range v) (ctb b W w i hd pt en lim j s)) else W s p q
abbrev MbA (b : Lb) (W : Int → Int → Int → Nat) (w : Int → Int) (i j sz : Nat) (hd : Nat → Int) (pt : Nat → List Int) (en : Nat → Nat) (lim : Int) (v : Nat) (N0 N : NW) : Prop := (∀ s ∈ sM b, ∀ p q : Nat, p < q → q ≤ sz → ¬ (p = i ∧ q = j) → N 723 ((sIx (sM b) s * 61 + p) * 61 + q) = N0 723 ((sIx (sM b) s * 61 + p) * 61 + q)) ∧ (∀ s ∈ sM b, N 723 ((sIx (sM b) s * 61 + i) * 61 + j) = -1 → ∀ c, c < v → ctb b W w i hd pt en lim j s c = 0) ∧ (∀ s ∈ sM b, N 723 ((sIx (sM b) s * 61 + i) * 61 + j) ≠ -1 → ∃ r : Nat, r ∈ rlT b b.st.length ∧ (r : Int) < lim ∧ N 723 ((sIx (sM b) s * 61 + i) * 61 + j) = (r : Int) ∧ (b.st.getD r nul).row.getD 0 0 = s ∧ 1 ≤ fw W w i ((b.st.getD r nul).row.tail.map (scd b)).reverse j)
set_option maxRecDepth 100000 in
theorem MbA.mo {b : Lb} {W : Int → Int → Int → Nat} {w : Int → Int} {i j sz : Nat} {hd : Nat → Int} {pt : Nat → List Int} {en : Nat → Nat} {lim : Int} {v : Nat} {N0 N : NW} (h : MbA b W w i j sz hd pt en lim v N0 N) : ∀ s ∈ sM b, ∀ p q : Nat, p < q → q ≤ sz → ¬ (p = i ∧ q = j) → N 723 ((sIx (sM b) s * 61 + p) * 61 + q) = N0 723 ((sIx (sM b) s * 61 + p) * 61 + q) := by sorry
set_option maxRecDepth 100000 in
theorem MbA.m1 {b : Lb} {W : Int → Int → Int → Nat} {w : Int → Int} {i j sz : Nat} {hd : Nat → Int} {pt : Nat → List Int} {en : Nat → Nat} {lim : Int} {v : Nat} {N0 N : NW} (h : MbA b W w i j sz hd pt en lim v N0 N) : ∀ s ∈ sM b, N 723 ((sIx (sM b) s * 61 + i) * 61 + j) = -1 → ∀ c, c < v → ctb b W w i hd pt en lim j s c = 0 := by sorry
set_option maxRecDepth 100000 in
theorem MbA.m2 {b : Lb} {W : Int → Int → Int → Nat} {w : Int → Int} {i j sz : Nat} {hd : Nat → Int} {pt : Nat → List Int} {en : Nat → Nat} {lim : Int} {v : Nat} {N0 N : NW} (h : MbA b W w i j sz hd pt en lim v N0 N) : ∀ s ∈ sM b, N 723 ((sIx (sM b) s * 61 + i) * 61 + j) ≠ -1 → ∃ r : Nat, r ∈ rlT b b.st.length ∧ (r : Int) < lim ∧ N 723 ((sIx (sM b) s * 61 + i) * 61 + j) = (r : Int) ∧ (b.st.getD r nul).row.getD 0 0 = s ∧ 1 ≤ fw W w i ((b.st.getD r nul).row.tail.map (scd b)).reverse j := by sorry
set_option maxRecDepth 100000 in
theorem MbA.fr {W : Int → Int → Int → Nat} {w : Int → Int} {v : Nat} {N0 N M : NW} (h : MbA b W w i j sz hd pt en lim v N0 N) (e : M 723 = N 723) : MbA b W w i j sz hd pt en lim v N0 M := by sorry
set_option maxRecDepth 100000 in
theorem ctb_le {W : Int → Int → Int → Nat} {w : Int → Int} {s : Int} {c : Nat} (h : nE b en lim c = 0) : ctb b W w i hd pt en lim j s c = 0 := by sorry
set_option maxRecDepth 100000 in
theorem waA_S {W : Int → Int → Int → Nat} {w : Int → Int} {v : Nat} (h : ∀ s, ctb b W w i hd pt en lim j s v = 0) : waA b W w i j hd pt en lim B0 (v + 1) = waA b W w i j hd pt en lim B0 v := by sorry
set_option maxRecDepth 100000 in
theorem MbA.nx {W : Int → Int → Int → Nat} {w : Int → Int} {v : Nat} {N0 N : NW} (h : MbA b W w i j sz hd pt en lim v N0 N) (h0 : ∀ s, ctb b W w i hd pt en lim j s v = 0) : MbA b W w i j sz hd pt en lim (v + 1) N0 N := by sorry
set_option maxRecDepth 100000 in
theorem q_fv {n c : Nat} (T : TrM np up st hd pt ls N) (c1 : 1 ≤ c) (cn : c < np) (u1 : 1 ≤ up c) : m_isFirstVariable n c N = some (if fvM up st c = true then 1 else 0, N) := by sorry
set_option maxRecDepth 100000 in
theorem q_sn {n c : Nat} (T : TrM np up st hd pt ls N) (c1 : 1 ≤ c) (cn : c < np) : m_isSortNode n c N = some (if up c = 0 then 1 else 0, N) := by sorry
set_option maxRecDepth 100000 in
theorem str_n137 {K : Int → NW → OR} {Q : Int → NW → Prop} {v1 v2 v3 v4 : Int} {c n : Nat} (T : TrM np up st hd pt ls N) (hn : c < n) (c1 : 1 ≤ c) (cn : c < np) (hK : ∀ t : Nat, 1 ≤ t → t < np → up t = 0 → st t = hd c → Ev (K (t : Nat) N) Q) : Ev (m_countStretch_l137 v1 v2 v3 v4 K n c N) Q := by sorry
set_option maxRecDepth 100000 in
theorem q_goToE {n c u j sz : Nat} {w : Int → Int} {fr g : Nat → Nat → Nat} {S : Int → Nat → Nat → Nat} (bg : b.begs ≤ 100) (T : TrM np up st hd pt ls N) (hsw : st c < 0 → 0 ≤ -2 - st c ∧ -2 - st c < b.sy.length) (nl : b.sy.length ≤ 1000) (so : SoM b N) (hf : FrM N np fr) (hS : StG b sz N S) (hsz : sz ≤ 59) (row : ∀ p : Nat, p < sz → N 719 p = w p) (c1 : 1 ≤ c) (cn : c < np) (hu : up c = u) (u1 : 1 ≤ u) (j1 : 1 ≤ j) (jz : j ≤ sz) (h0 : fr c j = 0) (hg : ∀ p, 1 ≤ p → p < np → ∀ y, y < 64 → g p y = frS fr c j (gtV b fr S w u (st c) j) p y) {X : OR} (hX : m_goTo n c j N = X) : Ev X (fun _ M => FrL Lfr N M ∧ FrM M np g) := by sorry
set_option maxRecDepth 100000 in
theorem many_eq {e f : Nat} (he : 1 ≤ e) (hf : 1 ≤ f) : cap2 (e * f) = if 2 ≤ f ∨ 2 ≤ e then 2 else 1 := by sorry
set_option maxRecDepth 100000 in
theorem str_m41 {K : NW → OR} {Q : Int → NW → Prop} {N0 : NW} (gf : GrF b) (hl : lim ≤ 1500) (G : MGs b ws np up st hd pt ls en N0) (hz : ws.length ≤ 59) (hij : i < j) (hj : j ≤ ws.length) (ou : ∀ s p q : Int, s ∉ sM b → W0 s p q = 0) (hS : StG b ws.length N0 S) (hS1 : ∀ s : Int, ∀ y : Nat, y < 64 → S s y j = if i < y ∧ y < j then W0 s y j else 0) (hK : ∀ M, FrL Lst4 N0 M → FrM M np (frA W0 (wS ws) i j up st pt ls lim np) → CtM b ws.length (waA b W0 (wS ws) i j hd pt en lim B0 np) M → MbA b W0 (wS ws) i j ws.length hd pt en lim np N0 M → Ev (K M) Q) : ∀ (d n v : Nat) (N : NW), v + d = np → 1 ≤ v → d + 40000 < n → FrL Lst4 N0 N → FrM N np (frA W0 (wS ws) i j up st pt ls lim v) → CtM b ws.length (waA b W0 (wS ws) i j hd pt en lim B0 v) N → MbA b W0 (wS ws) i j ws.length hd pt en lim v N0 N → Ev (m_countStretch_l41 i j lim K n v N) Q := by sorry
end MS2
end
section
def finM (i j p q : Nat) : Prop := i < p ∨ (p = i ∧ q < j)
def sgS (W : Int → Int → Int → Nat) (i j : Nat) : Int → Nat → Nat → Nat := fun s y q => if y < q ∧ (i < y ∨ (y = i ∧ q < j)) then W s y q else 0
def cdR (b : Lb) (r : Nat) : List Int := ((b.st.getD r nul).row.tail.map (scd b)).reverse
def MbF (b : Lb) (W : Int → Int → Int → Nat) (w : Int → Int) (lim : Int) (s : Int) (p q : Nat) (N : NW) : Prop := (N 723 ((sIx (sM b) s * 61 + p) * 61 + q) = -1 → ∀ r ∈ rlT b b.st.length, (r : Int) < lim → (b.st.getD r nul).row.getD 0 0 = s → fw W w p (cdR b r) q = 0) ∧ (N 723 ((sIx (sM b) s * 61 + p) * 61 + q) ≠ -1 → ∃ r : Nat, r ∈ rlT b b.st.length ∧ (r : Int) < lim ∧ N 723 ((sIx (sM b) s * 61 + p) * 61 + q) = (r : Int) ∧ (b.st.getD r nul).row.getD 0 0 = s ∧ 1 ≤ fw W w p (cdR b r) q)
abbrev MCn (b : Lb) (lim : Int) (ws : List Int) (np : Nat) (up : Nat → Nat) (pt : Nat → List Int) (ls : Nat → Int) (W : Int → Int → Int → Nat) (i j : Nat) (N : NW) : Prop := (FrM N np (frT W (wS ws) i up pt ls lim j)) ∧ (CtM b ws.length W N) ∧ (StG b ws.length N (sgS W i j)) ∧ (∀ s : Int, ∀ p q : Nat, ¬ finM i j p q → W s p q = 0) ∧ (∀ s ∈ sM b, ∀ p q : Nat, p < q → q ≤ ws.length → ¬ finM i j p q → N 723 ((sIx (sM b) s * 61 + p) * 61 + q) = -1) ∧ (∀ s ∈ sM b, ∀ p q : Nat, p < q → q ≤ ws.length → finM i j p q → MbF b W (wS ws) lim s p q N) ∧ (∀ p q : Nat, p < q → q ≤ ws.length → finM i j p q → Lst (fun s => gbase (rsB b lim) (lfS b ws) (wS ws) W s p q) (gun (rsB b lim)) (fun s => W s p q))
set_option maxRecDepth 100000 in
theorem MCn.fr {b : Lb} {lim : Int} {ws : List Int} {np : Nat} {up : Nat → Nat} {pt : Nat → List Int} {ls : Nat → Int} {W : Int → Int → Int → Nat} {i j : Nat} {N : NW} (h : MCn b lim ws np up pt ls W i j N) : FrM N np (frT W (wS ws) i up pt ls lim j) := by sorry
set_option maxRecDepth 100000 in
theorem MCn.ct {b : Lb} {lim : Int} {ws : List Int} {np : Nat} {up : Nat → Nat} {pt : Nat → List Int} {ls : Nat → Int} {W : Int → Int → Int → Nat} {i j : Nat} {N : NW} (h : MCn b lim ws np up pt ls W i j N) : CtM b ws.length W N := by sorry
set_option maxRecDepth 100000 in
theorem MCn.sg {b : Lb} {lim : Int} {ws : List Int} {np : Nat} {up : Nat → Nat} {pt : Nat → List Int} {ls : Nat → Int} {W : Int → Int → Int → Nat} {i j : Nat} {N : NW} (h : MCn b lim ws np up pt ls W i j N) : StG b ws.length N (sgS W i j) := by sorry
set_option maxRecDepth 100000 in
theorem MCn.ze {b : Lb} {lim : Int} {ws : List Int} {np : Nat} {up : Nat → Nat} {pt : Nat → List Int} {ls : Nat → Int} {W : Int → Int → Int → Nat} {i j : Nat} {N : NW} (h : MCn b lim ws np up pt ls W i j N) : ∀ s : Int, ∀ p q : Nat, ¬ finM i j p q → W s p q = 0 := by sorry
set_option maxRecDepth 100000 in
theorem MCn.mz {b : Lb} {lim : Int} {ws : List Int} {np : Nat} {up : Nat → Nat} {pt : Nat → List Int} {ls : Nat → Int} {W : Int → Int → Int → Nat} {i j : Nat} {N : NW} (h : MCn b lim ws np up pt ls W i j N) : ∀ s ∈ sM b, ∀ p q : Nat, p < q → q ≤ ws.length → ¬ finM i j p q → N 723 ((sIx (sM b) s * 61 + p) * 61 + q) = -1 := by sorry
set_option maxRecDepth 100000 in
theorem MCn.mf {b : Lb} {lim : Int} {ws : List Int} {np : Nat} {up : Nat → Nat} {pt : Nat → List Int} {ls : Nat → Int} {W : Int → Int → Int → Nat} {i j : Nat} {N : NW} (h : MCn b lim ws np up pt ls W i j N) : ∀ s ∈ sM b, ∀ p q : Nat, p < q → q ≤ ws.length → finM i j p q → MbF b W (wS ws) lim s p q N := by sorry
set_option maxRecDepth 100000 in
theorem MCn.ok {b : Lb} {lim : Int} {ws : List Int} {np : Nat} {up : Nat → Nat} {pt : Nat → List Int} {ls : Nat → Int} {W : Int → Int → Int → Nat} {i j : Nat} {N : NW} (h : MCn b lim ws np up pt ls W i j N) : ∀ p q : Nat, p < q → q ≤ ws.length → finM i j p q → Lst (fun s => gbase (rsB b lim) (lfS b ws) (wS ws) W s p q) (gun (rsB b lim)) (fun s => W s p q) := by sorry
section MS3
variable {b : Lb} {lim : Int} {N : NW} {i j sz : Nat} {W W0 : Int → Int → Int → Nat} {ws : List Int} {np : Nat} {up : Nat → Nat} {st hd : Nat → Int} {pt : Nat → List Int} {ls : Nat → Int} {en : Nat → Nat}
set_option maxRecDepth 100000 in
theorem bt_if {x : Int} {c : Prop} [Decidable c] {i y : Nat} (hi : i < 64) (hy : y < 64) : bt (lOr x (if c then (0 : Int) else lShl 1 i)) y = if bt x y = 1 ∨ (¬ c ∧ y = i) then 1 else 0 := by sorry
set_option maxRecDepth 100000 in
theorem str_m283 {K : NW → OR} {Q : Int → NW → Prop} {N0 : NW} {S : Int → Nat → Nat → Nat} (bg : b.begs ≤ 100) (so : SoM b N0) (hC : CtM b sz W N0) (hij : i < j) (hj : j ≤ sz) (hz : sz ≤ 59) (h0 : ∀ s : Int, S s i j = 0) (hK : ∀ M, FrL [(724, none), (725, none)] N0 M → StG b sz M (fun s y q => if y = i ∧ q = j then W s i j else S s y q) → Ev (K M) Q) : ∀ (d n v : Nat) (N : NW), v + d = (sM b).length → d < n → FrL [(724, none), (725, none)] N0 N → StG b sz N (fun s y q => if sIx (sM b) s < (v : Int) ∧ y = i ∧ q = j then W s i j else S s y q) → Ev (m_countStretch_l283 i j lim K n v N) Q := by sorry
def frB (W0 W : Int → Int → Int → Nat) (w : Int → Int) (i j : Nat) (up : Nat → Nat) (st : Nat → Int) (pt : Nat → List Int) (ls : Nat → Int) (lim : Int) (np v c y : Nat) : Nat := if y = j ∧ (c < v ∧ up c ≠ 0 ∧ ls c < lim ∧ fvM up st c = true) then fw W w i (pt c) j else frA W0 w i j up st pt ls lim np c y
set_option maxRecDepth 100000 in
theorem str_m378 {K : NW → OR} {Q : Int → NW → Prop} {N0 : NW} {S : Int → Nat → Nat → Nat} (gf : GrF b) (G : MGs b ws np up st hd pt ls en N0) (hz : ws.length ≤ 59) (hij : i < j) (hj : j ≤ ws.length) (ou : ∀ s p q : Int, s ∉ sM b → W s p q = 0) (hS : StG b ws.length N0 S) (hS1 : ∀ s : Int, S s i j = W s i j) (hK : ∀ M, FrL Lfr N0 M → FrM M np (frB W0 W (wS ws) i j up st pt ls lim np np) → Ev (K M) Q) : ∀ (d n v : Nat) (N : NW), v + d = np → 1 ≤ v → d + 100 < n → FrL Lfr N0 N → FrM N np (frB W0 W (wS ws) i j up st pt ls lim np v) → Ev (m_countStretch_l378 j lim K n v N) Q := by sorry
set_option maxRecDepth 100000 in
theorem fw_off {w : Int → Int} (hW : ∀ s p q : Int, ¬ (p = (i : Nat) ∧ q = (j : Nat)) → W s p q = W0 s p q) {p q : Nat} (h : finM i j p q) (l : List Int) : fw W w p l q = fw W0 w p l q := by sorry
set_option maxRecDepth 100000 in
theorem lst_off {lf w : Int → Int} {rs : List Rl} (hW : ∀ s p q : Int, ¬ (p = (i : Nat) ∧ q = (j : Nat)) → W s p q = W0 s p q) {p q : Nat} (h : finM i j p q) (L : Lst (fun s => gbase rs lf w W0 s p q) (gun rs) (fun s => W0 s p q)) : Lst (fun s => gbase rs lf w W s p q) (gun rs) (fun s => W s p q) := by sorry
end MS3
end
section
set_option maxRecDepth 100000 in
theorem at_inj {a a' p p' q q' : Int} (h1 : 0 ≤ p ∧ p ≤ 60) (h2 : 0 ≤ p' ∧ p' ≤ 60) (h3 : 0 ≤ q ∧ q ≤ 60) (h4 : 0 ≤ q' ∧ q' ≤ 60) (h : (a * 61 + p) * 61 + q = (a' * 61 + p') * 61 + q') : a = a' ∧ p = p' ∧ q = q' := by sorry
section MS4
variable {b : Lb} {lim : Int} {N : NW} {i j sz : Nat} {W W0 : Int → Int → Int → Nat} {ws : List Int} {np : Nat} {up : Nat → Nat} {st hd : Nat → Int} {pt : Nat → List Int} {ls : Nat → Int} {en : Nat → Nat}
set_option maxRecDepth 100000 in
theorem cdR_un (wf : Wf b) {r : Nat} (h : r ∈ rlT b b.st.length) : ∀ c, cdR b r = [c] → c < 0 := by sorry
set_option maxRecDepth 100000 in
theorem nE_zero (E : EnM b (rlT b b.st.length) np up hd pt ls en N) : nE b en lim 0 = 0 := by sorry
def lfB (b : Lb) (ws : List Int) (i j : Nat) (s : Int) : Nat := if 0 ≤ s ∧ (j : Int) = (i : Nat) + 1 ∧ lfS b ws i = s then 1 else 0
set_option maxRecDepth 100000 in
theorem gb_out2 (gf : GrF b) (G : MGs b ws np up st hd pt ls en N) (hw : ∀ s ∈ ws, 0 ≤ s ∧ s < b.sy.length) (hi : i < ws.length) {s : Int} (hs : s ∉ sM b) : lfB b ws i j s + smF (List.range np) (ctb b W (wS ws) i hd pt en lim j s) = 0 := by sorry
set_option maxRecDepth 100000 in
theorem MbA.fin {v : Nat} {N0 : NW} (wf : Wf b) (hW : ∀ s p q : Int, ¬ (p = (i : Nat) ∧ q = (j : Nat)) → W s p q = W0 s p q) (E : EnM b (rlT b b.st.length) np up hd pt ls en N) (h : MbA b W0 (wS ws) i j ws.length hd pt en lim np N0 N) {s : Int} (hs : s ∈ sM b) : MbF b W (wS ws) lim s i j N := by sorry
set_option maxRecDepth 100000 in
theorem frB_fin (T : TrM np up st hd pt ls N) (hW : ∀ s p q : Int, ¬ (p = (i : Nat) ∧ q = (j : Nat)) → W s p q = W0 s p q) (hij : i < j) {c y : Nat} (c1 : 1 ≤ c) (cn : c < np) : frT W (wS ws) i up pt ls lim (j + 1) c y = frB W0 W (wS ws) i j up st pt ls lim np np c y := by sorry
set_option maxRecDepth 100000 in
theorem q_countStretch {n : Nat} (hn : 90000 ≤ n) (gf : GrF b) (hl : lim ≤ 1500) (G : MGs b ws np up st hd pt ls en N) (hw : ∀ s ∈ ws, 0 ≤ s ∧ s < b.sy.length) (hz : ws.length ≤ 59) (hij : i < j) (hj : j ≤ ws.length) (h : MCn b lim ws np up pt ls W i j N) {X : OR} (hX : m_countStretch n i j lim N = X) : Ev X (fun _ M => FrL Lcs N M ∧ ∃ W', MCn b lim ws np up pt ls W' i (j + 1) M) := by sorry
end MS4
end
section
def Lcw : List (Nat × Option Int) := [(643, some 138), (643, some 140), (643, some 141), (643, some 142), (722, none), (723, none), (724, none), (725, none), (726, none), (727, none), (728, none), (729, none), (730, none), (731, none), (732, none), (733, none), (734, none), (735, none), (743, none), (744, none)]
def MTd (b : Lb) (N : NW) : Prop := N 643 141 = 0 ∨ (N 643 141 = 1 ∧ ∃ np up st hd pt ls en, GmM b b.st.length np up st hd pt ls en N)
abbrev MWy (b : Lb) (lim : Int) (ws : List Int) (W : Int → Int → Int → Nat) (N : NW) : Prop := (CtM b ws.length W N) ∧ (GrOK (rsB b lim) (lfS b ws) (wS ws) ws.length W) ∧ (∀ s ∈ sM b, ∀ p q : Nat, p < q → q ≤ ws.length → MbF b W (wS ws) lim s p q N)
set_option maxRecDepth 100000 in
theorem MWy.ct {b : Lb} {lim : Int} {ws : List Int} {W : Int → Int → Int → Nat} {N : NW} (h : MWy b lim ws W N) : CtM b ws.length W N := by sorry
set_option maxRecDepth 100000 in
theorem MWy.ok {b : Lb} {lim : Int} {ws : List Int} {W : Int → Int → Int → Nat} {N : NW} (h : MWy b lim ws W N) : GrOK (rsB b lim) (lfS b ws) (wS ws) ws.length W := by sorry
set_option maxRecDepth 100000 in
theorem MWy.mf {b : Lb} {lim : Int} {ws : List Int} {W : Int → Int → Int → Nat} {N : NW} (h : MWy b lim ws W N) : ∀ s ∈ sM b, ∀ p q : Nat, p < q → q ≤ ws.length → MbF b W (wS ws) lim s p q N := by sorry
section MWA
variable {b : Lb} {lim : Int} {N : NW} {i j sz : Nat} {W W0 : Int → Int → Int → Nat} {ws : List Int} {np : Nat} {up : Nat → Nat} {st hd : Nat → Int} {pt : Nat → List Int} {ls : Nat → Int} {en : Nat → Nat}
def Lc7 : List (Nat × Option Int) := [(722, none), (723, none), (724, none), (725, none)]
def ClM (b : Lb) (v i j : Nat) (sz : Nat) (N : NW) : Prop := ∀ s ∈ sM b, (∀ q : Nat, q ≤ sz → (sIx (sM b) s < (v : Int) ∨ (sIx (sM b) s = (v : Int) ∧ (q < i ∨ (q = i ∧ 0 < j)))) → N 724 (61 * sIx (sM b) s + q) = 0 ∧ N 725 (61 * sIx (sM b) s + q) = 0) ∧ ∀ p q : Nat, p < q → q ≤ sz → (sIx (sM b) s < (v : Int) ∨ (sIx (sM b) s = (v : Int) ∧ (p < i ∨ (p = i ∧ q < j)))) → N 722 ((sIx (sM b) s * 61 + p) * 61 + q) = 0 ∧ N 723 ((sIx (sM b) s * 61 + p) * 61 + q) = -1
set_option maxRecDepth 100000 in
theorem cw_m70 {K : NW → OR} {Q : Int → NW → Prop} {N0 : NW} {v1 v2 : Int} {v i : Nat} (sl : (sM b).length ≤ 100) (hv : v < (sM b).length) (n121 : N0 643 121 = (sz : Nat)) (hz : sz ≤ 59) (hK : ∀ M, FrL Lc7 N0 M → ClM b v (i + 1) 0 sz M → Ev (K M) Q) : ∀ (d n j : Nat) (N : NW), j + d = sz + 1 → i < j → d < n → FrL Lc7 N0 N → ClM b v i j sz N → Ev (m_countWays_l70 v1 v2 v i K n j N) Q := by sorry
set_option maxRecDepth 100000 in
theorem cw_m29 {K : NW → OR} {Q : Int → NW → Prop} {N0 : NW} {v1 v2 : Int} {v : Nat} (sl : (sM b).length ≤ 100) (hv : v < (sM b).length) (n121 : N0 643 121 = (sz : Nat)) (hz : sz ≤ 59) (hK : ∀ M, FrL Lc7 N0 M → ClM b (v + 1) 0 0 sz M → Ev (K M) Q) : ∀ (d n i : Nat) (N : NW), i + d = sz + 1 → d + 200 < n → FrL Lc7 N0 N → ClM b v i 0 sz N → Ev (m_countWays_l29 v1 v2 v K n i N) Q := by sorry
set_option maxRecDepth 100000 in
theorem cw_m18 {K : NW → OR} {Q : Int → NW → Prop} {N0 : NW} {v1 v2 : Int} (sl : (sM b).length ≤ 100) (so : SoM b N0) (n121 : N0 643 121 = (sz : Nat)) (hz : sz ≤ 59) (hK : ∀ M, FrL Lc7 N0 M → ClM b (sM b).length 0 0 sz M → Ev (K M) Q) : ∀ (d n v : Nat) (N : NW), v + d = (sM b).length → d + 400 < n → FrL Lc7 N0 N → ClM b v 0 0 sz N → Ev (m_countWays_l18 v1 v2 K n v N) Q := by sorry
set_option maxRecDepth 100000 in
theorem lShl_r (x y : Int) : -9223372036854775808 ≤ lShl x y ∧ lShl x y < 9223372036854775808 := by sorry
set_option maxRecDepth 100000 in
theorem cw_m141 {K : NW → OR} {Q : Int → NW → Prop} {N0 : NW} {v1 v2 : Int} (G : MGs b ws np up st hd pt ls en N0) (hi : i < 64) (hK : ∀ M, FrL Lfr N0 M → FrM M np (fun c y => if up c = 0 ∧ y = i then 1 else 0) → Ev (K M) Q) : ∀ (d n v : Nat) (N : NW), v + d = np → 1 ≤ v → d < n → FrL Lfr N0 N → (∀ c : Nat, 1 ≤ c → c < v → (-9223372036854775808 ≤ N 733 c ∧ N 733 c < 9223372036854775808) ∧ ∀ y : Nat, y < 64 → B2 (N 733 c) (N 734 c) y (if up c = 0 ∧ y = i then 1 else 0)) → Ev (m_countWays_l141 v1 v2 i K n v N) Q := by sorry
abbrev MCr (b : Lb) (lim : Int) (ws : List Int) (W : Int → Int → Int → Nat) (i j : Nat) (N : NW) : Prop := (CtM b ws.length W N) ∧ (StG b ws.length N (sgS W i j)) ∧ (∀ s : Int, ∀ p q : Nat, ¬ finM i j p q → W s p q = 0) ∧ (∀ s ∈ sM b, ∀ p q : Nat, p < q → q ≤ ws.length → ¬ finM i j p q → N 723 ((sIx (sM b) s * 61 + p) * 61 + q) = -1) ∧ (∀ s ∈ sM b, ∀ p q : Nat, p < q → q ≤ ws.length → finM i j p q → MbF b W (wS ws) lim s p q N) ∧ (∀ p q : Nat, p < q → q ≤ ws.length → finM i j p q → Lst (fun s => gbase (rsB b lim) (lfS b ws) (wS ws) W s p q) (gun (rsB b lim)) (fun s => W s p q))
set_option maxRecDepth 100000 in
theorem MCr.ct {b : Lb} {lim : Int} {ws : List Int} {W : Int → Int → Int → Nat} {i j : Nat} {N : NW} (h : MCr b lim ws W i j N) : CtM b ws.length W N := by sorry
set_option maxRecDepth 100000 in
theorem MCr.sg {b : Lb} {lim : Int} {ws : List Int} {W : Int → Int → Int → Nat} {i j : Nat} {N : NW} (h : MCr b lim ws W i j N) : StG b ws.length N (sgS W i j) := by sorry
set_option maxRecDepth 100000 in
theorem MCr.ze {b : Lb} {lim : Int} {ws : List Int} {W : Int → Int → Int → Nat} {i j : Nat} {N : NW} (h : MCr b lim ws W i j N) : ∀ s : Int, ∀ p q : Nat, ¬ finM i j p q → W s p q = 0 := by sorry
set_option maxRecDepth 100000 in
theorem MCr.mz {b : Lb} {lim : Int} {ws : List Int} {W : Int → Int → Int → Nat} {i j : Nat} {N : NW} (h : MCr b lim ws W i j N) : ∀ s ∈ sM b, ∀ p q : Nat, p < q → q ≤ ws.length → ¬ finM i j p q → N 723 ((sIx (sM b) s * 61 + p) * 61 + q) = -1 := by sorry
set_option maxRecDepth 100000 in
theorem MCr.mf {b : Lb} {lim : Int} {ws : List Int} {W : Int → Int → Int → Nat} {i j : Nat} {N : NW} (h : MCr b lim ws W i j N) : ∀ s ∈ sM b, ∀ p q : Nat, p < q → q ≤ ws.length → finM i j p q → MbF b W (wS ws) lim s p q N := by sorry
set_option maxRecDepth 100000 in
theorem MCr.ok {b : Lb} {lim : Int} {ws : List Int} {W : Int → Int → Int → Nat} {i j : Nat} {N : NW} (h : MCr b lim ws W i j N) : ∀ p q : Nat, p < q → q ≤ ws.length → finM i j p q → Lst (fun s => gbase (rsB b lim) (lfS b ws) (wS ws) W s p q) (gun (rsB b lim)) (fun s => W s p q) := by sorry
set_option maxRecDepth 100000 in
theorem MCr.fr {M : NW} (h : MCr b lim ws W i j N) (e2 : M 722 = N 722) (e3 : M 723 = N 723) (e4 : M 724 = N 724) (e5 : M 725 = N 725) : MCr b lim ws W i j M := by sorry
set_option maxRecDepth 100000 in
theorem MCn.mcr (h : MCn b lim ws np up pt ls W i j N) : MCr b lim ws W i j N := by sorry
set_option maxRecDepth 100000 in
theorem MCr.row (h : MCr b lim ws W (i + 1) (ws.length + 1) N) (T : TrM np up st hd pt ls N) (f : FrM N np (fun c y => if up c = 0 ∧ y = i then 1 else 0)) : MCn b lim ws np up pt ls W i (i + 1) N := by sorry
set_option maxRecDepth 100000 in
theorem cw_m192 {K : NW → OR} {Q : Int → NW → Prop} {N0 : NW} {v1 : Int} (gf : GrF b) (hl : lim ≤ 1500) (G : MGs b ws np up st hd pt ls en N0) (hw : ∀ s ∈ ws, 0 ≤ s ∧ s < b.sy.length) (hz : ws.length ≤ 59) (hi : i < ws.length) (hK : ∀ M W, FrL Lcs N0 M → MCr b lim ws W i (ws.length + 1) M → Ev (K M) Q) : ∀ (d n j : Nat) (N : NW) (W : Int → Int → Int → Nat), j + d = ws.length + 1 → i < j → d + 100000 < n → FrL Lcs N0 N → MCn b lim ws np up pt ls W i j N → Ev (m_countWays_l192 v1 lim i K n j N) Q := by sorry
set_option maxRecDepth 100000 in
theorem cw_m134 {K : NW → OR} {Q : Int → NW → Prop} {N0 : NW} {v1 : Int} (gf : GrF b) (hl : lim ≤ 1500) (G : MGs b ws np up st hd pt ls en N0) (hw : ∀ s ∈ ws, 0 ≤ s ∧ s < b.sy.length) (hz : ws.length ≤ 59) (hK : ∀ M W, FrL Lcs N0 M → MWy b lim ws W M → Ev (K M) Q) : ∀ (d n : Nat) (N : NW) (W : Int → Int → Int → Nat), d ≤ ws.length → d + 110000 < n → FrL Lcs N0 N → MCr b lim ws W d (ws.length + 1) N → Ev (m_countWays_l134 v1 lim K n ((d : Int) - 1) N) Q := by sorry
end MWA
end
section
section MW2
variable {b : Lb} {lim : Int} {N : NW} {i j sz : Nat} {W W0 : Int → Int → Int → Nat} {ws : List Int} {np : Nat} {up : Nat → Nat} {st hd : Nat → Int} {pt : Nat → List Int} {ls : Nat → Int} {en : Nat → Nat}
def srM (b : Lb) (x : Int) : Int := if 0 ≤ srt b x ∧ srt b x ∈ sM b then sIx (sM b) (srt b x) else -1
def waM (b : Lb) (W : Int → Int → Int → Nat) (ws : List Int) (x : Int) : Nat := if (0 ≤ srt b x ∧ srt b x ∈ sM b) ∧ 0 < ws.length then W (srt b x) 0 ws.length else 0
def McwQ (b : Lb) (lim x : Int) (ws : List Int) (N : NW) : Int → NW → Prop := fun v M => FrL Lcw N M ∧ M 643 142 = lim ∧ M 643 141 = 1 ∧ (∃ np up st hd pt ls en, MGs b ws np up st hd pt ls en M) ∧ ∃ W, MWy b lim ws W M ∧ v = (waM b W ws x : Nat)
set_option maxRecDepth 100000 in
theorem q_countWays {n : Nat} {x : Int} (hn : 200000 ≤ n) (gf : GrF b) (hl : lim ≤ 1500) (hb : MLb b N) (tr : MTd b N) (r : MRw b ws N) (hw : ∀ s ∈ ws, 0 ≤ s ∧ s < b.sy.length) (hz : ws.length ≤ 59) {X : OR} (hX : m_countWays n (srM b x) lim N = X) : Ev X (McwQ b lim x ws N) := by sorry
set_option maxRecDepth 100000 in
theorem map_gd : ∀ (l : List Nat), (List.range l.length).map (fun r => l.getD r 0) = l := by sorry
set_option maxRecDepth 100000 in
theorem rsC_B {σ : List Int} {cd : Nat → Int} (hg : GmK b b.st.length (rlF b b.st.length) σ np up cd pt ls en N) : rsC (rlF b b.st.length).length (axF (rlF b b.st.length)) (soF b σ (rlF b b.st.length)) en pt lim = (rsB b lim).map (renR σ) := by sorry
set_option maxRecDepth 100000 in
theorem ren_ok {σ : List Int} {cd : Nat → Int} (wf : Wf b) (gf : GrF b) (hg : GmK b b.st.length (rlF b b.st.length) σ np up cd pt ls en N) (ty : ∀ s ∈ ws, b.con s = false → 0 ≤ b.typ s → b.typ s ∈ σ) : RenOK (rsB b lim) σ (lfS b ws) (lfI b σ ws) ws.length := by sorry
set_option maxRecDepth 100000 in
theorem cnt_eq {σ : List Int} {cd : Nat → Int} {x r : Int} {Wn Wm : Int → Int → Int → Nat} {M : NW} (wf : Wf b) (gf : GrF b) (C : CNT b lim ws σ np up cd pt ls en Wn N) (hm : MWy b lim ws Wm M) (hs : srt b x ∈ σ) (hr : r = (Wn (sIx σ (srt b x)) 0 ws.length : Nat)) (h0 : 0 ≤ srt b x) : GrOK (rsB b lim) (lfS b ws) (wS ws) ws.length (renW σ Wn) ∧ (∀ s p q : Int, 0 ≤ p → p < q → q ≤ (ws.length : Nat) → renW σ Wn s p q = Wm s p q) ∧ r = (waM b Wm ws x : Nat) := by sorry
end MW2
end
section
def T3 : Type := Int × Int × Int
def T3.s (t : T3) : Int := t.1
def T3.i (t : T3) : Int := t.2.1
def T3.j (t : T3) : Int := t.2.2
def mkT3 (s i j : Int) : T3 := (s, i, j)
def sdn (P : Int → Bool) : Nat → Int → Int
  | 0, p => p
  | k + 1, p => if P p = true then p else sdn P k (p - 1)
set_option maxRecDepth 100000 in
theorem sdn_eq {P : Int → Bool} {p : Int} : ∀ (k : Nat) (q : Int), p ≤ q → q - p ≤ (k : Int) → P p = true → (∀ r, p < r → r ≤ q → P r = false) → sdn P k q = p := by sorry
def cutT (b : Lb) (W : Int → Int → Int → Nat) (w : Int → Int) (i : Int) : List Int → Int → List (Int × Int × Int)
  | [], _ => []
  | s :: l, j => (s, (if b.con s = true then j - 1 else sdn (fun p => decide (0 < fw W w i (l.map (scd b)) p ∧ 0 < W (b.typ s) p j)) 64 (j - 1)), j) :: cutT b W w i l (if b.con s = true then j - 1 else sdn (fun p => decide (0 < fw W w i (l.map (scd b)) p ∧ 0 < W (b.typ s) p j)) 64 (j - 1))
set_option maxRecDepth 100000 in
theorem getD_in {α : Type} {l : List α} {k : Nat} {d : α} (h : k < l.length) : l.getD k d ∈ l := by sorry
section TRE
variable {b : Lb} {W : Int → Int → Int → Nat} {w lf : Int → Int} {lim n i : Int}
set_option maxRecDepth 100000 in
theorem cut_con {s j : Int} {l : List Int} (hc : b.con s = true) (h0 : 0 ≤ s) (h : fw W w i (scd b s :: l.map (scd b)) j = 1) : i < j ∧ w (j - 1) = s ∧ fw W w i (l.map (scd b)) (j - 1) = 1 := by sorry
set_option maxRecDepth 100000 in
theorem cut_var {s j : Int} {l : List Int} (hc : b.con s = false) (h0 : 0 ≤ b.typ s) (h : fw W w i (scd b s :: l.map (scd b)) j = 1) (hb : j - i ≤ 60) : ∃ p, (i ≤ p ∧ p < j) ∧ fw W w i (l.map (scd b)) p = 1 ∧ W (b.typ s) p j = 1 ∧ (∀ p', i ≤ p' → p' < j → p' ≠ p → fw W w i (l.map (scd b)) p' = 0 ∨ W (b.typ s) p' j = 0) ∧ sdn (fun p => decide (0 < fw W w i (l.map (scd b)) p ∧ 0 < W (b.typ s) p j)) 64 (j - 1) = p := by sorry
abbrev CutE (b : Lb) (W : Int → Int → Int → Nat) (w : Int → Int) (i j : Int) (e : Int × Int × Int) : Prop := (i ≤ e.2.1 ∧ e.2.1 < e.2.2 ∧ e.2.2 ≤ j) ∧ (b.con e.1 = true → e.2.2 = e.2.1 + 1 ∧ w e.2.1 = e.1) ∧ (b.con e.1 = false → W (b.typ e.1) e.2.1 e.2.2 = 1)
set_option maxRecDepth 100000 in
theorem CutE.r {b : Lb} {W : Int → Int → Int → Nat} {w : Int → Int} {i j : Int} {e : Int × Int × Int} (h : CutE b W w i j e) : i ≤ e.2.1 ∧ e.2.1 < e.2.2 ∧ e.2.2 ≤ j := by sorry
set_option maxRecDepth 100000 in
theorem CutE.c {b : Lb} {W : Int → Int → Int → Nat} {w : Int → Int} {i j : Int} {e : Int × Int × Int} (h : CutE b W w i j e) : b.con e.1 = true → e.2.2 = e.2.1 + 1 ∧ w e.2.1 = e.1 := by sorry
set_option maxRecDepth 100000 in
theorem CutE.v {b : Lb} {W : Int → Int → Int → Nat} {w : Int → Int} {i j : Int} {e : Int × Int × Int} (h : CutE b W w i j e) : b.con e.1 = false → W (b.typ e.1) e.2.1 e.2.2 = 1 := by sorry
set_option maxRecDepth 100000 in
theorem cut_ok : ∀ (L : List Int) (j : Int), (∀ s ∈ L, 0 ≤ s ∧ (b.con s = false → 0 ≤ b.typ s)) → fw W w i (L.map (scd b)) j = 1 → j - i ≤ 60 → (∀ e ∈ cutT b W w i L j, CutE b W w i j e) ∧ i ≤ j := by sorry
set_option maxRecDepth 100000 in
theorem cut_map : ∀ (L : List Int) (j : Int), (cutT b W w i L j).map (·.1) = L := by sorry
def gdT (W : Int → Int → Int → Nat) (n : Int) (t : T3) : Prop := (0 ≤ t.i ∧ t.i < t.j ∧ t.j ≤ n) ∧ W t.s t.i t.j = 1
def leT (lf : Int → Int) (t : T3) : Prop := 0 ≤ t.s ∧ t.j = t.i + 1 ∧ lf t.i = t.s
def hdR (b : Lb) (r : Nat) : Int := (b.st.getD r nul).row.getD 0 0
def ruT (b : Lb) (lim : Int) (W : Int → Int → Int → Nat) (w : Int → Int) (t : T3) : Nat := ((rsL b lim).find? fun r => decide (hdR b r = t.s ∧ 0 < fw W w t.i (cdR b r) t.j)).getD 0
set_option maxRecDepth 100000 in
theorem wy_fw (hW : ∀ s p q : Int, 0 ≤ p → p < q → q ≤ n → W s p q ≤ 2) (r : Nat) {p q : Int} (h0 : 0 ≤ p) (h1 : p < q) (h2 : q ≤ n) : wy lf w W p q (ruR b r) = fw W w p (cdR b r) q := by sorry
set_option maxRecDepth 100000 in
theorem rsL_nd : (rsL b lim).Nodup := by sorry
set_option maxRecDepth 100000 in
theorem gr_le2 (ok : GrOK (rsB b lim) lf w n W) : ∀ s p q : Int, 0 ≤ p → p < q → q ≤ n → W s p q ≤ 2 := by sorry
set_option maxRecDepth 100000 in
theorem one_T (ok : GrOK (rsB b lim) lf w n W) {t : T3} (g : gdT W n t) : (leT lf t ∧ ∀ r ∈ rsL b lim, hdR b r = t.s → fw W w t.i (cdR b r) t.j = 0) ∨ (¬ leT lf t ∧ ruT b lim W w t ∈ rsL b lim ∧ hdR b (ruT b lim W w t) = t.s ∧ fw W w t.i (cdR b (ruT b lim W w t)) t.j = 1 ∧ ∀ r ∈ rsL b lim, r ≠ ruT b lim W w t → hdR b r = t.s → fw W w t.i (cdR b r) t.j = 0) := by sorry
def whT (b : Lb) (lim : Int) (W : Int → Int → Int → Nat) (lf w : Int → Int) (t : T3) : Int := if 0 ≤ t.s ∧ t.j = t.i + 1 ∧ lf t.i = t.s then -1 - w t.i else (ruT b lim W w t : Nat)
def whe (b : Lb) (W : Int → Int → Int → Nat) (w : Int → Int) (t : T3) (r : Nat) (v : Int) : Int × Int := (((cutT b W w t.i (b.st.getD r nul).row.tail.reverse t.j).find? fun e => decide (e.1 = v)).getD (0, 0, 0)).2
def kiT (b : Lb) (lim : Int) (W : Int → Int → Int → Nat) (w : Int → Int) (t : T3) (k : Nat) : T3 := (b.typ (rvr b ((b.st.getD (ruT b lim W w t) nul).hyp.getD k 0)), whe b W w t (ruT b lim W w t) (rvr b ((b.st.getD (ruT b lim W w t) nul).hyp.getD k 0)))
set_option maxRecDepth 100000 in
theorem find_fst {v : Int} : ∀ (l : List (Int × Int × Int)), v ∈ l.map (·.1) → ∃ e ∈ l, e.1 = v ∧ (l.find? fun e => decide (e.1 = v)) = some e := by sorry
set_option maxRecDepth 100000 in
theorem ru_hyp {r : Nat} (gf : GrF b) (wf : Wf b) (hi : r < b.st.length) (ru : isRu b (b.st.getD r nul) = true) : (∀ g ∈ (b.st.getD r nul).hyp, rvr b g ∈ tlV b (b.st.getD r nul) ∧ (b.s g).kind = 0) ∧ ((b.st.getD r nul).hyp.map (rvr b)).Nodup ∧ (tlV b (b.st.getD r nul)).Nodup ∧ (∀ v, v ∈ tlV b (b.st.getD r nul) ↔ v ∈ (b.st.getD r nul).hyp.map (rvr b)) := by sorry
set_option maxRecDepth 100000 in
theorem ru_sy {r : Nat} (gf : GrF b) (wf : Wf b) (hi : r < b.st.length) (ru : isRu b (b.st.getD r nul) = true) : ∀ s ∈ (b.st.getD r nul).row.tail.reverse, 0 ≤ s ∧ (b.con s = false → 0 ≤ b.typ s) := by sorry
set_option maxRecDepth 100000 in
theorem cdR_map (r : Nat) : cdR b r = ((b.st.getD r nul).row.tail.reverse).map (scd b) := by sorry
set_option maxRecDepth 100000 in
theorem kid_T (ok : GrOK (rsB b lim) lf w n W) (gf : GrF b) (wf : Wf b) (hn : n ≤ 59) {t : T3} (g : gdT W n t) (nl : ¬ leT lf t) {k : Nat} (hk : k < (b.st.getD (ruT b lim W w t) nul).hyp.length) : gdT W n (kiT b lim W w t k) ∧ t.i ≤ (kiT b lim W w t k).i ∧ (kiT b lim W w t k).j ≤ t.j := by sorry
end TRE
end
section
section CHN
variable {b : Lb} {W : Int → Int → Int → Nat} {w lf : Int → Int} {lim n i j : Int}
def unS (b : Lb) (lim : Int) (W : Int → Int → Int → Nat) (lf w : Int → Int) (i j : Int) (s : Int) : Bool := decide (W s i j = 1) && (!decide (0 ≤ s ∧ j = i + 1 ∧ lf i = s) && unT b (b.st.getD (ruT b lim W w (mkT3 s i j)) nul))
def suS (b : Lb) (lim : Int) (W : Int → Int → Int → Nat) (w : Int → Int) (i j : Int) (s : Int) : Int := b.typ ((b.st.getD (ruT b lim W w (mkT3 s i j)) nul).row.getD 1 0)
def itS (f : Int → Int) : Nat → Int → Int
  | 0, s => s
  | k + 1, s => itS f k (f s)
set_option maxRecDepth 100000 in
theorem itS_S (f : Int → Int) : ∀ (k : Nat) (s : Int), itS f (k + 1) s = f (itS f k s) := by sorry
set_option maxRecDepth 100000 in
theorem itS_add (f : Int → Int) (m : Nat) : ∀ (k : Nat) (s : Int), itS f (k + m) s = itS f m (itS f k s) := by sorry
def rkF (u : Int → Bool) (f : Int → Int) : Nat → Int → Nat
  | 0, _ => 0
  | k + 1, s => if u s = true then 1 + rkF u f k (f s) else 0
set_option maxRecDepth 100000 in
theorem rkF_st {u : Int → Bool} {f : Int → Int} : ∀ (k m : Nat) (s : Int), k ≤ m → u (itS f k s) = false → rkF u f m s = rkF u f (m + 1) s ∧ rkF u f m s ≤ k := by sorry
set_option maxRecDepth 100000 in
theorem un_T (ok : GrOK (rsB b lim) lf w n W) (gf : GrF b) (wf : Wf b) (h0 : 0 ≤ i) (h1 : i < j) (h2 : j ≤ n) {s : Int} (h : unS b lim W lf w i j s = true) : W s i j = 1 ∧ s ∈ sM b ∧ W (suS b lim W w i j s) i j = 1 ∧ gbase (rsB b lim) lf w W s i j = 0 ∧ ∀ g : Int → Nat, (∀ x, g x ≤ W x i j) → gun (rsB b lim) g s ≤ g (suS b lim W w i j s) := by sorry
set_option maxRecDepth 100000 in
theorem un_ends (ok : GrOK (rsB b lim) lf w n W) (gf : GrF b) (wf : Wf b) (h0 : 0 ≤ i) (h1 : i < j) (h2 : j ≤ n) (s0 : Int) : ∃ k, unS b lim W lf w i j (itS (suS b lim W w i j) k s0) = false := by sorry
set_option maxRecDepth 100000 in
theorem least_n {P : Nat → Bool} : ∀ k, P k = true → ∃ m, m ≤ k ∧ P m = true ∧ ∀ x, x < m → P x = false := by sorry
set_option maxRecDepth 100000 in
theorem un_soon (ok : GrOK (rsB b lim) lf w n W) (gf : GrF b) (wf : Wf b) (h0 : 0 ≤ i) (h1 : i < j) (h2 : j ≤ n) (s0 : Int) : ∃ k, k ≤ 100 ∧ unS b lim W lf w i j (itS (suS b lim W w i j) k s0) = false := by sorry
def bdT (b : Lb) (lim : Int) (W : Int → Int → Int → Nat) (lf w : Int → Int) (t : T3) : Nat := 1 + rkF (unS b lim W lf w t.i t.j) (suS b lim W w t.i t.j) 101 t.s + 101 * (2 * (t.j - t.i) - 2).toNat
set_option maxRecDepth 100000 in
theorem rk_le (ok : GrOK (rsB b lim) lf w n W) (gf : GrF b) (wf : Wf b) (h0 : 0 ≤ i) (h1 : i < j) (h2 : j ≤ n) (s : Int) : rkF (unS b lim W lf w i j) (suS b lim W w i j) 101 s ≤ 100 := by sorry
set_option maxRecDepth 100000 in
theorem rk_S (ok : GrOK (rsB b lim) lf w n W) (gf : GrF b) (wf : Wf b) (h0 : 0 ≤ i) (h1 : i < j) (h2 : j ≤ n) {s : Int} (h : unS b lim W lf w i j s = true) : rkF (unS b lim W lf w i j) (suS b lim W w i j) 101 s = 1 + rkF (unS b lim W lf w i j) (suS b lim W w i j) 101 (suS b lim W w i j s) := by sorry
end CHN
end
section
section BND
variable {b : Lb} {W : Int → Int → Int → Nat} {w lf : Int → Int} {lim n i j : Int}
def sumV (b : Lb) (g : T3 → Nat) (E : List (Int × Int × Int)) : Nat := ((E.filter fun e => !b.con e.1).map fun e => g (mkT3 (b.typ e.1) e.2.1 e.2.2)).sum
set_option maxRecDepth 100000 in
theorem map_gi {α : Type} (F : Int → α) : ∀ (l : List Int), (List.range l.length).map (fun k => F (l.getD k 0)) = l.map F := by sorry
set_option maxRecDepth 100000 in
theorem perm_nd : ∀ (l m : List Int), l.Nodup → m.Nodup → (∀ x, x ∈ l ↔ x ∈ m) → l.Perm m := by sorry
set_option maxRecDepth 100000 in
theorem perm_sum {α : Type} {g : α → Nat} {l m : List α} (h : l.Perm m) : (l.map g).sum = (m.map g).sum := by sorry
set_option maxRecDepth 100000 in
theorem kid_sum (gf : GrF b) (wf : Wf b) {t : T3} (h1 : ruT b lim W w t ∈ rsL b lim) (g : T3 → Nat) : ((List.range (b.st.getD (ruT b lim W w t) nul).hyp.length).map fun k => g (kiT b lim W w t k)).sum = sumV b g (cutT b W w t.i (b.st.getD (ruT b lim W w t) nul).row.tail.reverse t.j) := by sorry
def cnC (b : Lb) : List Int → Nat
  | [] => 0
  | s :: l => (if b.con s = true then 1 else 0) + cnC b l
set_option maxRecDepth 100000 in
theorem cut_sum : ∀ (L : List Int) (j : Int), (∀ s ∈ L, 0 ≤ s ∧ (b.con s = false → 0 ≤ b.typ s)) → fw W w i (L.map (scd b)) j = 1 → j - i ≤ 60 → ((sumV b (fun t => (2 * (t.j - t.i) - 1).toNat) (cutT b W w i L j) : Nat) : Int) = 2 * (j - i) - (L.length : Nat) - (cnC b L : Nat) := by sorry
set_option maxRecDepth 100000 in
theorem bd_pos {t : T3} : 1 ≤ bdT b lim W lf w t := by sorry
set_option maxRecDepth 100000 in
theorem bd_le (ok : GrOK (rsB b lim) lf w n W) (gf : GrF b) (wf : Wf b) {t : T3} (g : gdT W n t) : bdT b lim W lf w t ≤ 101 * (2 * (t.j - t.i) - 1).toNat := by sorry
set_option maxRecDepth 100000 in
theorem bd_top (ok : GrOK (rsB b lim) lf w n W) (gf : GrF b) (wf : Wf b) (hn : n ≤ 59) {t : T3} (g : gdT W n t) : bdT b lim W lf w t ≤ 11817 := by sorry
set_option maxRecDepth 100000 in
theorem sumV_mono {f g : T3 → Nat} {E : List (Int × Int × Int)} (h : ∀ e ∈ E, b.con e.1 = false → f (mkT3 (b.typ e.1) e.2.1 e.2.2) ≤ g (mkT3 (b.typ e.1) e.2.1 e.2.2)) : sumV b f E ≤ sumV b g E := by sorry
set_option maxRecDepth 100000 in
theorem sumV_mul {g : T3 → Nat} (k : Nat) : ∀ (E : List (Int × Int × Int)), sumV b (fun t => k * g t) E = k * sumV b g E := by sorry
set_option maxRecDepth 100000 in
theorem bd_kids (ok : GrOK (rsB b lim) lf w n W) (gf : GrF b) (wf : Wf b) (hn : n ≤ 59) {t : T3} (g : gdT W n t) (nl : ¬ leT lf t) : sumV b (bdT b lim W lf w) (cutT b W w t.i (b.st.getD (ruT b lim W w t) nul).row.tail.reverse t.j) + 1 ≤ bdT b lim W lf w t := by sorry
end BND
end
section
abbrev CTe (b : Lb) (lim : Int) (ws σ : List Int) (np : Nat) (up : Nat → Nat) (cd : Nat → Int) (pt : Nat → List Int) (ls : Nat → Int) (en : Nat → Nat) (W : Int → Int → Int → Nat) (N : NW) : Prop := (KL b.st N) ∧ (Wf b) ∧ (GrF b) ∧ (GmK b b.st.length (rlF b b.st.length) σ np up cd pt ls en N) ∧ (∀ s ∈ σ, ∀ p q : Nat, p ≤ 60 → q ≤ 60 → N 603 ((sIx σ s * 61 + p) * 61 + q) = (W s p q : Nat)) ∧ (GrOK (rsB b lim) (lfS b ws) (wS ws) ws.length W) ∧ (∀ p : Nat, p < ws.length → N 602 p = wS ws p) ∧ (N 589 18 = ws.length) ∧ (ws.length ≤ 59)
set_option maxRecDepth 100000 in
theorem CTe.kl {b : Lb} {lim : Int} {ws σ : List Int} {np : Nat} {up : Nat → Nat} {cd : Nat → Int} {pt : Nat → List Int} {ls : Nat → Int} {en : Nat → Nat} {W : Int → Int → Int → Nat} {N : NW} (h : CTe b lim ws σ np up cd pt ls en W N) : KL b.st N := by sorry
set_option maxRecDepth 100000 in
theorem CTe.wf {b : Lb} {lim : Int} {ws σ : List Int} {np : Nat} {up : Nat → Nat} {cd : Nat → Int} {pt : Nat → List Int} {ls : Nat → Int} {en : Nat → Nat} {W : Int → Int → Int → Nat} {N : NW} (h : CTe b lim ws σ np up cd pt ls en W N) : Wf b := by sorry
set_option maxRecDepth 100000 in
theorem CTe.gf {b : Lb} {lim : Int} {ws σ : List Int} {np : Nat} {up : Nat → Nat} {cd : Nat → Int} {pt : Nat → List Int} {ls : Nat → Int} {en : Nat → Nat} {W : Int → Int → Int → Nat} {N : NW} (h : CTe b lim ws σ np up cd pt ls en W N) : GrF b := by sorry
set_option maxRecDepth 100000 in
theorem CTe.g {b : Lb} {lim : Int} {ws σ : List Int} {np : Nat} {up : Nat → Nat} {cd : Nat → Int} {pt : Nat → List Int} {ls : Nat → Int} {en : Nat → Nat} {W : Int → Int → Int → Nat} {N : NW} (h : CTe b lim ws σ np up cd pt ls en W N) : GmK b b.st.length (rlF b b.st.length) σ np up cd pt ls en N := by sorry
set_option maxRecDepth 100000 in
theorem CTe.ct {b : Lb} {lim : Int} {ws σ : List Int} {np : Nat} {up : Nat → Nat} {cd : Nat → Int} {pt : Nat → List Int} {ls : Nat → Int} {en : Nat → Nat} {W : Int → Int → Int → Nat} {N : NW} (h : CTe b lim ws σ np up cd pt ls en W N) : ∀ s ∈ σ, ∀ p q : Nat, p ≤ 60 → q ≤ 60 → N 603 ((sIx σ s * 61 + p) * 61 + q) = (W s p q : Nat) := by sorry
set_option maxRecDepth 100000 in
theorem CTe.ok {b : Lb} {lim : Int} {ws σ : List Int} {np : Nat} {up : Nat → Nat} {cd : Nat → Int} {pt : Nat → List Int} {ls : Nat → Int} {en : Nat → Nat} {W : Int → Int → Int → Nat} {N : NW} (h : CTe b lim ws σ np up cd pt ls en W N) : GrOK (rsB b lim) (lfS b ws) (wS ws) ws.length W := by sorry
set_option maxRecDepth 100000 in
theorem CTe.row {b : Lb} {lim : Int} {ws σ : List Int} {np : Nat} {up : Nat → Nat} {cd : Nat → Int} {pt : Nat → List Int} {ls : Nat → Int} {en : Nat → Nat} {W : Int → Int → Int → Nat} {N : NW} (h : CTe b lim ws σ np up cd pt ls en W N) : ∀ p : Nat, p < ws.length → N 602 p = wS ws p := by sorry
set_option maxRecDepth 100000 in
theorem CTe.n18 {b : Lb} {lim : Int} {ws σ : List Int} {np : Nat} {up : Nat → Nat} {cd : Nat → Int} {pt : Nat → List Int} {ls : Nat → Int} {en : Nat → Nat} {W : Int → Int → Int → Nat} {N : NW} (h : CTe b lim ws σ np up cd pt ls en W N) : N 589 18 = ws.length := by sorry
set_option maxRecDepth 100000 in
theorem CTe.hz {b : Lb} {lim : Int} {ws σ : List Int} {np : Nat} {up : Nat → Nat} {cd : Nat → Int} {pt : Nat → List Int} {ls : Nat → Int} {en : Nat → Nat} {W : Int → Int → Int → Nat} {N : NW} (h : CTe b lim ws σ np up cd pt ls en W N) : ws.length ≤ 59 := by sorry
def Lbd : List (Nat × Option Int) := [(575, some 6), (582, some 6), (576, none), (577, none), (578, none), (579, none), (580, none), (581, none), (583, none), (584, none), (585, none), (586, none), (587, none), (588, none), (606, none), (607, none), (608, none)]
def xB (c : Bool) : Int := if c = true then 1 else 0
set_option maxRecDepth 100000 in
theorem xB_or {a c : Bool} : i2B (iOr (xB a) (xB c)) = xB (a || c) ∧ (-128 ≤ i2B (iOr (xB a) (xB c)) ∧ i2B (iOr (xB a) (xB c)) < 128) := by sorry
set_option maxRecDepth 100000 in
theorem xB_le {c : Bool} : xB c ≤ 0 ↔ c = false := by sorry
set_option maxRecDepth 100000 in
theorem xB_0 {c : Bool} : xB c = 0 ↔ c = false := by sorry
section CMK
variable {b : Lb} {lim : Int} {ws σ : List Int} {np : Nat} {up : Nat → Nat} {cd : Nat → Int} {pt : Nat → List Int} {ls : Nat → Int} {en : Nat → Nat} {W : Int → Int → Int → Nat} {w : Int → Int} {N : NW}
set_option maxRecDepth 100000 in
theorem CTe.fr {M : NW} (h : CTe b lim ws σ np up cd pt ls en W N) (F : FrL Lbd N M) : CTe b lim ws σ np up cd pt ls en W M := by sorry
def fwk (b : Lb) (W : Int → Int → Int → Nat) (w : Int → Int) (i : Int) (T : List Int) (k : Nat) (p : Int) : Nat := fw W w i ((T.take k).reverse.map (scd b)) p
set_option maxRecDepth 100000 in
theorem take_rev {T : List Int} {k : Nat} (h : k < T.length) : (T.take (k + 1)).reverse = T.getD k 0 :: (T.take k).reverse := by sorry
def ctP (b : Lb) (W : Int → Int → Int → Nat) (w : Int → Int) (s p q : Int) : Bool := decide (p < q) && (if b.con s = true then decide (q = p + 1) && decide (w p = s) else decide (0 < W (b.typ s) p q))
set_option maxRecDepth 100000 in
theorem sumR_pos {f : Int → Nat} {i : Int} : ∀ (n : Nat), 0 < sumR f i n ↔ ∃ p, (i ≤ p ∧ p < i + (n : Int)) ∧ 0 < f p := by sorry
set_option maxRecDepth 100000 in
theorem cap2_pos {a : Nat} : 0 < cap2 a ↔ 0 < a := by sorry
set_option maxRecDepth 100000 in
theorem fwk_S {i : Int} {T : List Int} {k : Nat} (h : k < T.length) (h0 : ∀ s ∈ T, 0 ≤ s ∧ (b.con s = false → 0 ≤ b.typ s)) (q : Int) : 0 < fwk b W w i T (k + 1) q ↔ ∃ p, i ≤ p ∧ 0 < fwk b W w i T k p ∧ ctP b W w (T.getD k 0) p q = true := by sorry
set_option maxRecDepth 100000 in
theorem fw_len {i : Int} : ∀ (l : List Int) (j : Int), 0 < fw W w i l j → (l.length : Int) ≤ j - i := by sorry
set_option maxRecDepth 100000 in
theorem fw_fst {i c : Int} (hc : c < 0) : ∀ (l : List Int) (j : Int), 0 < fw W w i (l ++ [c]) j → w i = -1 - c := by sorry
set_option maxRecDepth 100000 in
theorem fw_lst {i c : Int} {l : List Int} {j : Int} (hc : c < 0) (h : 0 < fw W w i (c :: l) j) : w (j - 1) = -1 - c := by sorry
def rlN (b : Lb) (r : Nat) : Nat := (rlF b b.st.length).getD r 0
set_option maxRecDepth 100000 in
theorem rlN_m {r : Nat} (hr : r < (rlF b b.st.length).length) : rlN b r < b.st.length ∧ isRu b (b.st.getD (rlN b r) nul) = true := by sorry
set_option maxRecDepth 100000 in
theorem q_len {n r : Nat} (h : CTe b lim ws σ np up cd pt ls en W N) (hr : r < (rlF b b.st.length).length) : kX11_length n r N = some ((((b.st.getD (rlN b r) nul).row.length - 1 : Nat) : Int), N) ∧ 0 ≤ N 592 r ∧ N 592 r = bof b (rlF b b.st.length) r ∧ N 592 ((r : Int) + 1) = N 592 r + (((b.st.getD (rlN b r) nul).row.length - 1 : Nat) : Int) ∧ N 592 r + (((b.st.getD (rlN b r) nul).row.length - 1 : Nat) : Int) ≤ 30000 ∧ r < 1500 ∧ Sg (N 593) (N 592 r) ((b.st.getD (rlN b r) nul).row.tail.map (bcd b (b.st.getD (rlN b r) nul))) := by sorry
set_option maxRecDepth 100000 in
theorem q_typ {n r k : Nat} (h : CTe b lim ws σ np up cd pt ls en W N) (hr : r < (rlF b b.st.length).length) (l60 : (b.st.getD (rlN b r) nul).row.length ≤ 60) (hk : k < (b.st.getD (rlN b r) nul).hyp.length) : kX11_typeOf n r k N = some (sIx σ (b.typ (rvr b ((b.st.getD (rlN b r) nul).hyp.getD k 0))), N) ∧ b.typ (rvr b ((b.st.getD (rlN b r) nul).hyp.getD k 0)) ∈ σ := by sorry
end CMK
end
section
set_option maxRecDepth 100000 in
theorem map_gD {f : Int → Int} {l : List Int} {k : Nat} (h : k < l.length) : (l.map f).getD k 0 = f (l.getD k 0) := by sorry
section CM2
variable {b : Lb} {lim : Int} {ws σ : List Int} {np : Nat} {up : Nat → Nat} {cd : Nat → Int} {pt : Nat → List Int} {ls : Nat → Int} {en : Nat → Nat} {W : Int → Int → Int → Nat} {N : NW}
def L606 : List (Nat × Option Int) := [(606, none)]
def nxB (b : Lb) (W : Int → Int → Int → Nat) (w : Int → Int) (i : Nat) (T : List Int) (k : Nat) : Nat → Nat → Bool
  | 0, _ => false
  | p + 1, q => nxB b W w i T k p q || (decide (i ≤ p ∧ 0 < fwk b W w i T k p) && ctP b W w (T.getD k 0) p q)
set_option maxRecDepth 100000 in
theorem nxB_iff {w : Int → Int} {i : Nat} {T : List Int} {k : Nat} : ∀ (v q : Nat), nxB b W w i T k v q = true ↔ ∃ p : Nat, p < v ∧ (i ≤ p ∧ 0 < fwk b W w i T k p) ∧ ctP b W w (T.getD k 0) p q = true := by sorry
set_option maxRecDepth 100000 in
theorem nxB_end {w : Int → Int} {i : Nat} {T : List Int} {k e : Nat} (hk : k < T.length) (h0 : ∀ s ∈ T, 0 ≤ s ∧ (b.con s = false → 0 ≤ b.typ s)) {q : Nat} (hq : q ≤ e) : nxB b W w i T k e q = decide (0 < fwk b W w i T (k + 1) q) := by sorry
abbrev TbC (b : Lb) (W : Int → Int → Int → Nat) (w : Int → Int) (T : List Int) (i e k : Nat) (A : Nat → Bool) (N : NW) : Prop := (∀ j q : Nat, j ≤ k → i ≤ q → q ≤ e → N 606 (61 * (j : Int) + q) = xB (decide (0 < fwk b W w i T j q))) ∧ (k < T.length → ∀ q : Nat, i ≤ q → q ≤ e → N 606 (61 * ((k : Int) + 1) + q) = xB (A q)) ∧ (∀ j q : Nat, k + 1 < j → j ≤ T.length → i ≤ q → q ≤ e → N 606 (61 * (j : Int) + q) = 0)
set_option maxRecDepth 100000 in
theorem TbC.d {b : Lb} {W : Int → Int → Int → Nat} {w : Int → Int} {T : List Int} {i e k : Nat} {A : Nat → Bool} {N : NW} (h : TbC b W w T i e k A N) : ∀ j q : Nat, j ≤ k → i ≤ q → q ≤ e → N 606 (61 * (j : Int) + q) = xB (decide (0 < fwk b W w i T j q)) := by sorry
set_option maxRecDepth 100000 in
theorem TbC.n {b : Lb} {W : Int → Int → Int → Nat} {w : Int → Int} {T : List Int} {i e k : Nat} {A : Nat → Bool} {N : NW} (h : TbC b W w T i e k A N) : k < T.length → ∀ q : Nat, i ≤ q → q ≤ e → N 606 (61 * ((k : Int) + 1) + q) = xB (A q) := by sorry
set_option maxRecDepth 100000 in
theorem TbC.z {b : Lb} {W : Int → Int → Int → Nat} {w : Int → Int} {T : List Int} {i e k : Nat} {A : Nat → Bool} {N : NW} (h : TbC b W w T i e k A N) : ∀ j q : Nat, k + 1 < j → j ≤ T.length → i ≤ q → q ≤ e → N 606 (61 * (j : Int) + q) = 0 := by sorry
set_option maxRecDepth 100000 in
theorem TbC.cg {w : Int → Int} {T : List Int} {i e k : Nat} {A A' : Nat → Bool} (h : TbC b W w T i e k A N) (ha : ∀ q, q ≤ e → A' q = A q) : TbC b W w T i e k A' N := by sorry
set_option maxRecDepth 100000 in
theorem TbC.put {w : Int → Int} {T : List Int} {i e k q0 : Nat} {A : Nat → Bool} {c : Bool} (h : TbC b W w T i e k A N) (he : e ≤ 59) (hq : q0 ≤ e) : TbC b W w T i e k (fun q => if q = q0 then c else A q) (up2 N 606 (61 * ((k : Int) + 1) + q0) (xB c)) := by sorry
set_option maxRecDepth 100000 in
theorem cstep_l72 {s0 : Int} {K : NW → OR} {Q : Int → NW → Prop} {N0 : NW} {i e k p : Nat} {t : Int} {T : List Int} {A : Nat → Bool} (h : CTe b lim ws σ np up cd pt ls en W N0) (ht : t ∈ σ) (he : e ≤ ws.length) (hi : i ≤ p) (hk : k < T.length) (hT : T.length ≤ 59) (hK : ∀ M, FrL L606 N0 M → TbC b W (wS ws) T i e k (fun q => A q || (decide (p < q) && decide (0 < W t p q))) M → Ev (K M) Q) : ∀ (d n v : Nat) (N : NW), v + d = e + 1 → p < v → d < n → FrL L606 N0 N → TbC b W (wS ws) T i e k (fun q => A q || (decide (p < q ∧ q < v) && decide (0 < W t p q))) N → Ev (kX11_step_l72 k p e (sIx σ t) K n v N) Q := by sorry
set_option maxRecDepth 100000 in
theorem ru_body {n r k : Nat} (h : CTe b lim ws σ np up cd pt ls en W N) (hr : r < (rlF b b.st.length).length) (l60 : (b.st.getD (rlN b r) nul).row.length ≤ 60) (hk : k < (b.st.getD (rlN b r) nul).row.tail.length) : (b.con ((b.st.getD (rlN b r) nul).row.tail.getD k 0) = true → N 593 (N 592 r + k) = -1 - (b.st.getD (rlN b r) nul).row.tail.getD k 0) ∧ (b.con ((b.st.getD (rlN b r) nul).row.tail.getD k 0) = false → 0 ≤ N 593 (N 592 r + k) ∧ kX11_typeOf n r (N 593 (N 592 r + k)) N = some (sIx σ (b.typ ((b.st.getD (rlN b r) nul).row.tail.getD k 0)), N) ∧ b.typ ((b.st.getD (rlN b r) nul).row.tail.getD k 0) ∈ σ ∧ ∃ g : Nat, N 593 (N 592 r + k) = (g : Int) ∧ g < (b.st.getD (rlN b r) nul).hyp.length ∧ rvr b ((b.st.getD (rlN b r) nul).hyp.getD g 0) = (b.st.getD (rlN b r) nul).row.tail.getD k 0) := by sorry
set_option maxRecDepth 100000 in
theorem q_cstep {n r k p i e : Nat} {A : Nat → Bool} (hn : 200 ≤ n) (h : CTe b lim ws σ np up cd pt ls en W N) (hr : r < (rlF b b.st.length).length) (l60 : (b.st.getD (rlN b r) nul).row.length ≤ 60) (hk : k < (b.st.getD (rlN b r) nul).row.tail.length) (he : e ≤ ws.length) (hi : i ≤ p) (hp : p < e) (hb : TbC b W (wS ws) (b.st.getD (rlN b r) nul).row.tail i e k A N) {X : OR} (hX : kX11_step n r k p e N = X) : Ev X (fun _ M => FrL L606 N M ∧ TbC b W (wS ws) (b.st.getD (rlN b r) nul).row.tail i e k (fun q => A q || ctP b W (wS ws) ((b.st.getD (rlN b r) nul).row.tail.getD k 0) p q) M) := by sorry
set_option maxRecDepth 100000 in
theorem makes_l121 {v4 : Int} {K : NW → OR} {Q : Int → NW → Prop} {N0 : NW} {r k i e : Nat} (h : CTe b lim ws σ np up cd pt ls en W N0) (hr : r < (rlF b b.st.length).length) (l60 : (b.st.getD (rlN b r) nul).row.length ≤ 60) (hk : k < (b.st.getD (rlN b r) nul).row.tail.length) (he : e ≤ ws.length) (hK : ∀ M, FrL L606 N0 M → TbC b W (wS ws) (b.st.getD (rlN b r) nul).row.tail i e k (nxB b W (wS ws) i (b.st.getD (rlN b r) nul).row.tail k e) M → Ev (K M) Q) : ∀ (d n v : Nat) (N : NW), v + d = e → i ≤ v → d + 300 < n → FrL L606 N0 N → TbC b W (wS ws) (b.st.getD (rlN b r) nul).row.tail i e k (nxB b W (wS ws) i (b.st.getD (rlN b r) nul).row.tail k v) N → Ev (kX11_makes_l121 r i e v4 k K n v N) Q := by sorry
end CM2
end
section
section CM3
variable {b : Lb} {lim : Int} {ws σ : List Int} {np : Nat} {up : Nat → Nat} {cd : Nat → Int} {pt : Nat → List Int} {ls : Nat → Int} {en : Nat → Nat} {W : Int → Int → Int → Nat} {N : NW}
def TbF (b : Lb) (W : Int → Int → Int → Nat) (w : Int → Int) (T : List Int) (i e : Nat) (N : NW) : Prop := ∀ j q : Nat, j ≤ T.length → i ≤ q → q ≤ e → N 606 (61 * (j : Int) + q) = xB (decide (0 < fwk b W w i T j q))
set_option maxRecDepth 100000 in
theorem makes_l64 {v1 : Int} {K : NW → OR} {Q : Int → NW → Prop} {N0 : NW} {i e m : Nat} (he : e ≤ 59) (hm : m ≤ 59) (hie : i ≤ e) (hK : ∀ M, FrL L606 N0 M → (∀ j q : Nat, j ≤ m → i ≤ q → q ≤ e → M 606 (61 * (j : Int) + q) = 0) → Ev (K M) Q) : ∀ (d n v : Nat) (N : NW), v + d = m + 1 → d + 3800 < n → FrL L606 N0 N → (∀ j q : Nat, j < v → i ≤ q → q ≤ e → N 606 (61 * (j : Int) + q) = 0) → Ev (kX11_makes_l64 v1 i e m K n v N) Q := by sorry
set_option maxRecDepth 100000 in
theorem makes_l111 {K : NW → OR} {Q : Int → NW → Prop} {N0 : NW} {r i e : Nat} (h : CTe b lim ws σ np up cd pt ls en W N0) (hr : r < (rlF b b.st.length).length) (l60 : (b.st.getD (rlN b r) nul).row.length ≤ 60) (he : e ≤ ws.length) (hie : i ≤ e) (hK : ∀ M, FrL L606 N0 M → TbF b W (wS ws) (b.st.getD (rlN b r) nul).row.tail i e M → Ev (K M) Q) : ∀ (d n k : Nat) (N : NW), k + d = (b.st.getD (rlN b r) nul).row.tail.length → d + 500 < n → FrL L606 N0 N → TbC b W (wS ws) (b.st.getD (rlN b r) nul).row.tail i e k (fun _ => false) N → Ev (kX11_makes_l111 r i e (((b.st.getD (rlN b r) nul).row.length - 1 : Nat) : Int) K n k N) Q := by sorry
set_option maxRecDepth 100000 in
theorem fwk_all {i : Int} {w : Int → Int} {T : List Int} {j : Int} : fwk b W w i T T.length j = fw W w i (T.reverse.map (scd b)) j := by sorry
set_option maxRecDepth 100000 in
theorem q_mayBe {n : Nat} {c a : Int} (h : CTe b lim ws σ np up cd pt ls en W N) (hc : -1001 ≤ c) (ha : 0 ≤ a ∧ a < ws.length) : kX11_mayBe n c a N = some (if 0 ≤ c ∨ wS ws a = -1 - c then 1 else 0, N) := by sorry
set_option maxRecDepth 100000 in
theorem q_makes {n r i e : Nat} (hn : 5000 ≤ n) (h : CTe b lim ws σ np up cd pt ls en W N) (hr : r < (rlF b b.st.length).length) (hie : i < e) (he : e ≤ ws.length) {X : OR} (hX : kX11_makes n r i e N = X) : Ev X (fun v M => FrL L606 N M ∧ ((v = 0 ∧ ((b.st.getD (rlN b r) nul).row.length ≤ 60 → fw W (wS ws) i (cdR b (rlN b r)) e = 0)) ∨ (v = 1 ∧ (b.st.getD (rlN b r) nul).row.length ≤ 60 ∧ 0 < fw W (wS ws) i (cdR b (rlN b r)) e ∧ TbF b W (wS ws) (b.st.getD (rlN b r) nul).row.tail i e M))) := by sorry
end CM3
end
section
set_option maxRecDepth 100000 in
theorem cutT_cons {b : Lb} {W : Int → Int → Int → Nat} {w : Int → Int} {i s j : Int} {l : List Int} : cutT b W w i (s :: l) j = (s, (if b.con s = true then j - 1 else sdn (fun p => decide (0 < fw W w i (l.map (scd b)) p ∧ 0 < W (b.typ s) p j)) 64 (j - 1)), j) :: cutT b W w i l (if b.con s = true then j - 1 else sdn (fun p => decide (0 < fw W w i (l.map (scd b)) p ∧ 0 < W (b.typ s) p j)) 64 (j - 1)) := by sorry
set_option maxRecDepth 100000 in
theorem ndM_inj {f : Int → Int} {l : List Int} (nd : (l.map f).Nodup) {g1 g2 : Nat} (h1 : g1 < l.length) (h2 : g2 < l.length) (he : f (l.getD g1 0) = f (l.getD g2 0)) : g1 = g2 := by sorry
section CCU
variable {b : Lb} {lim : Int} {ws σ : List Int} {np : Nat} {up : Nat → Nat} {cd : Nat → Int} {pt : Nat → List Int} {ls : Nat → Int} {en : Nat → Nat} {W : Int → Int → Int → Nat} {N : NW}
def L6078 : List (Nat × Option Int) := [(607, none), (608, none)]
set_option maxRecDepth 100000 in
theorem cut_l51 {r i k a p : Nat} {t v5 : Int} {T : List Int} {K : Int → NW → OR} {Q : Int → NW → Prop} (h : CTe b lim ws σ np up cd pt ls en W N) (ht : t ∈ σ) (hk : k ≤ 59) (ha : a ≤ 59) (tb : ∀ q : Nat, i ≤ q → q < a → N 606 (61 * (k : Int) + q) = xB (decide (0 < fwk b W (wS ws) i T k q))) (hip : i ≤ p) (hpa : p < a) (p1 : 0 < fwk b W (wS ws) i T k p) (p2 : 0 < W t p a) (p3 : ∀ q : Int, (i : Int) ≤ q → q < (a : Nat) → q ≠ p → fwk b W (wS ws) i T k q = 0 ∨ W t q a = 0) (hK : Ev (K (p : Nat) N) Q) : ∀ (d n q : Nat), q = p + d → q < a → d < n → Ev (kX11_cut_l51 r a k v5 (sIx σ t) K n q N) Q := by sorry
def WrC (b : Lb) (hyp : List Int) (E : List (Int × Int × Int)) (N : NW) : Prop := ∀ e ∈ E, b.con e.1 = false → ∀ g : Nat, g < hyp.length → rvr b (hyp.getD g 0) = e.1 → N 607 g = e.2.1 ∧ N 608 g = e.2.2
set_option maxRecDepth 100000 in
theorem cut_l11 {K : NW → OR} {Q : Int → NW → Prop} {N0 : NW} {r i e : Nat} (h : CTe b lim ws σ np up cd pt ls en W N0) (hr : r < (rlF b b.st.length).length) (l60 : (b.st.getD (rlN b r) nul).row.length ≤ 60) (he : e ≤ ws.length) (tb : TbF b W (wS ws) (b.st.getD (rlN b r) nul).row.tail i e N0) (hK : ∀ M, FrL L6078 N0 M → WrC b (b.st.getD (rlN b r) nul).hyp (cutT b W (wS ws) i (b.st.getD (rlN b r) nul).row.tail.reverse e) M → Ev (K M) Q) : ∀ (k n a : Nat) (pre : List (Int × Int × Int)) (N : NW), k ≤ (b.st.getD (rlN b r) nul).row.tail.length → a ≤ e → k + 200 < n → FrL L6078 N0 N → fwk b W (wS ws) i (b.st.getD (rlN b r) nul).row.tail k a = 1 → cutT b W (wS ws) i (b.st.getD (rlN b r) nul).row.tail.reverse e = pre ++ cutT b W (wS ws) i ((b.st.getD (rlN b r) nul).row.tail.take k).reverse a → WrC b (b.st.getD (rlN b r) nul).hyp pre N → Ev (kX11_cut_l11 r K n a ((k : Int) - 1) N) Q := by sorry
set_option maxRecDepth 100000 in
theorem q_cut {n r e : Nat} {t : T3} (hn : 1000 ≤ n) (h : CTe b lim ws σ np up cd pt ls en W N) (hr : r < (rlF b b.st.length).length) (l60 : (b.st.getD (rlN b r) nul).row.length ≤ 60) (i : Nat) (hi : t.i = i) (hj : t.j = e) (he : e ≤ ws.length) (tb : TbF b W (wS ws) (b.st.getD (rlN b r) nul).row.tail i e N) (f1 : fw W (wS ws) i (cdR b (rlN b r)) e = 1) {X : OR} (hX : kX11_cut n r e N = X) : Ev X (fun _ M => FrL L6078 N M ∧ ∀ g : Nat, g < (b.st.getD (rlN b r) nul).hyp.length → M 607 g = (whe b W (wS ws) t (rlN b r) (rvr b ((b.st.getD (rlN b r) nul).hyp.getD g 0))).1 ∧ M 608 g = (whe b W (wS ws) t (rlN b r) (rvr b ((b.st.getD (rlN b r) nul).hyp.getD g 0))).2) := by sorry
end CCU
end
section
def Wbd : List Nat := [576, 577, 578, 579, 580, 581, 583, 584, 585, 586, 587, 588, 606, 607, 608]
def sBT (b : Lb) (lim : Int) (W : Int → Int → Int → Nat) (lf w : Int → Int) (T : Nat → T3) (u sz : Nat) : Nat := ((List.range (sz - u)).map fun k => bdT b lim W lf w (T (u + k))).sum
section FOC
variable {b : Lb} {lim : Int} {W : Int → Int → Int → Nat} {lf w : Int → Int} {T : Nat → T3} {u v sz : Nat}
set_option maxRecDepth 100000 in
theorem sBT_snoc {t : T3} (h : u ≤ sz) : sBT b lim W lf w (fup T sz t) u (sz + 1) = sBT b lim W lf w T u sz + bdT b lim W lf w t := by sorry
set_option maxRecDepth 100000 in
theorem sBT_cons (h : v < sz) : sBT b lim W lf w T v sz = bdT b lim W lf w (T v) + sBT b lim W lf w T (v + 1) sz := by sorry
set_option maxRecDepth 100000 in
theorem sBT_ge : sz - u ≤ sBT b lim W lf w T u sz := by sorry
set_option maxRecDepth 100000 in
theorem sBT_cg {T' : Nat → T3} (h : ∀ x, x < sz → T' x = T x) : sBT b lim W lf w T' u sz = sBT b lim W lf w T u sz := by sorry
end FOC
abbrev FoC (o : Nat) (b : Lb) (lim : Int) (ws σ : List Int) (W : Int → Int → Int → Nat) (T : Nat → T3) (v u sz : Nat) (N : NW) : Prop := (N o 6 = (sz : Nat)) ∧ (∀ x : Nat, x < sz → (N (o + 1) x = sIx σ (T x).s ∧ N (o + 2) x = (T x).i ∧ N (o + 3) x = (T x).j) ∧ gdT W ws.length (T x) ∧ (T x).s ∈ σ) ∧ (∀ x : Nat, u ≤ x → x < sz → N (o + 4) x = -1 ∧ N (o + 5) x = -1) ∧ (∀ x : Nat, x < v → leT (lfS b ws) (T x) → N (o + 4) x = -1 ∧ N (o + 5) x = wS ws (T x).i) ∧ (∀ x : Nat, x < v → ¬ leT (lfS b ws) (T x) → ∃ r y : Nat, (r < (rlF b b.st.length).length ∧ rlN b r = ruT b lim W (wS ws) (T x)) ∧ N (o + 4) x = (r : Nat) ∧ N (o + 6) x = (y : Nat) ∧ x < y ∧ y + (b.st.getD (rlN b r) nul).hyp.length ≤ sz ∧ ∀ k, k < (b.st.getD (rlN b r) nul).hyp.length → T (y + k) = kiT b lim W (wS ws) (T x) k) ∧ (∀ y : Nat, 1 ≤ y → y < sz → ∃ x k, x < y ∧ ¬ leT (lfS b ws) (T x) ∧ k < (b.st.getD (ruT b lim W (wS ws) (T x)) nul).hyp.length ∧ T y = kiT b lim W (wS ws) (T x) k) ∧ (v + sBT b lim W (lfS b ws) (wS ws) T v sz ≤ 11817) ∧ (v ≤ sz)
set_option maxRecDepth 100000 in
theorem FoC.n6 {o : Nat} {b : Lb} {lim : Int} {ws σ : List Int} {W : Int → Int → Int → Nat} {T : Nat → T3} {v u sz : Nat} {N : NW} (h : FoC o b lim ws σ W T v u sz N) : N o 6 = (sz : Nat) := by sorry
set_option maxRecDepth 100000 in
theorem FoC.nd {o : Nat} {b : Lb} {lim : Int} {ws σ : List Int} {W : Int → Int → Int → Nat} {T : Nat → T3} {v u sz : Nat} {N : NW} (h : FoC o b lim ws σ W T v u sz N) : ∀ x : Nat, x < sz → (N (o + 1) x = sIx σ (T x).s ∧ N (o + 2) x = (T x).i ∧ N (o + 3) x = (T x).j) ∧ gdT W ws.length (T x) ∧ (T x).s ∈ σ := by sorry
set_option maxRecDepth 100000 in
theorem FoC.nw {o : Nat} {b : Lb} {lim : Int} {ws σ : List Int} {W : Int → Int → Int → Nat} {T : Nat → T3} {v u sz : Nat} {N : NW} (h : FoC o b lim ws σ W T v u sz N) : ∀ x : Nat, u ≤ x → x < sz → N (o + 4) x = -1 ∧ N (o + 5) x = -1 := by sorry
set_option maxRecDepth 100000 in
theorem FoC.lf {o : Nat} {b : Lb} {lim : Int} {ws σ : List Int} {W : Int → Int → Int → Nat} {T : Nat → T3} {v u sz : Nat} {N : NW} (h : FoC o b lim ws σ W T v u sz N) : ∀ x : Nat, x < v → leT (lfS b ws) (T x) → N (o + 4) x = -1 ∧ N (o + 5) x = wS ws (T x).i := by sorry
set_option maxRecDepth 100000 in
theorem FoC.ru {o : Nat} {b : Lb} {lim : Int} {ws σ : List Int} {W : Int → Int → Int → Nat} {T : Nat → T3} {v u sz : Nat} {N : NW} (h : FoC o b lim ws σ W T v u sz N) : ∀ x : Nat, x < v → ¬ leT (lfS b ws) (T x) → ∃ r y : Nat, (r < (rlF b b.st.length).length ∧ rlN b r = ruT b lim W (wS ws) (T x)) ∧ N (o + 4) x = (r : Nat) ∧ N (o + 6) x = (y : Nat) ∧ x < y ∧ y + (b.st.getD (rlN b r) nul).hyp.length ≤ sz ∧ ∀ k, k < (b.st.getD (rlN b r) nul).hyp.length → T (y + k) = kiT b lim W (wS ws) (T x) k := by sorry
set_option maxRecDepth 100000 in
theorem FoC.pa {o : Nat} {b : Lb} {lim : Int} {ws σ : List Int} {W : Int → Int → Int → Nat} {T : Nat → T3} {v u sz : Nat} {N : NW} (h : FoC o b lim ws σ W T v u sz N) : ∀ y : Nat, 1 ≤ y → y < sz → ∃ x k, x < y ∧ ¬ leT (lfS b ws) (T x) ∧ k < (b.st.getD (ruT b lim W (wS ws) (T x)) nul).hyp.length ∧ T y = kiT b lim W (wS ws) (T x) k := by sorry
set_option maxRecDepth 100000 in
theorem FoC.bd {o : Nat} {b : Lb} {lim : Int} {ws σ : List Int} {W : Int → Int → Int → Nat} {T : Nat → T3} {v u sz : Nat} {N : NW} (h : FoC o b lim ws σ W T v u sz N) : v + sBT b lim W (lfS b ws) (wS ws) T v sz ≤ 11817 := by sorry
set_option maxRecDepth 100000 in
theorem FoC.vz {o : Nat} {b : Lb} {lim : Int} {ws σ : List Int} {W : Int → Int → Int → Nat} {T : Nat → T3} {v u sz : Nat} {N : NW} (h : FoC o b lim ws σ W T v u sz N) : v ≤ sz := by sorry
section FO2
variable {o : Nat} {b : Lb} {lim : Int} {ws σ : List Int} {W : Int → Int → Int → Nat} {T : Nat → T3} {v u sz : Nat} {N M : NW}
set_option maxRecDepth 100000 in
theorem FoC.szb (h : FoC o b lim ws σ W T v u sz N) : sz ≤ 11817 := by sorry
set_option maxRecDepth 100000 in
theorem FoC.fr (h : FoC o b lim ws σ W T v u sz N) (e0 : M o 6 = N o 6) (e : ∀ k, 1 ≤ k → k ≤ 6 → M (o + k) = N (o + k)) : FoC o b lim ws σ W T v u sz M := by sorry
abbrev AdC (o : Nat) (sz : Nat) (s i j : Int) (N M : NW) : Prop := (M o 6 = (sz : Int) + 1) ∧ (∀ x : Int, M (o + 1) x = if x = sz then s else N (o + 1) x) ∧ (∀ x : Int, M (o + 2) x = if x = sz then i else N (o + 2) x) ∧ (∀ x : Int, M (o + 3) x = if x = sz then j else N (o + 3) x) ∧ (∀ x : Int, M (o + 4) x = if x = sz then -1 else N (o + 4) x) ∧ (∀ x : Int, M (o + 5) x = if x = sz then -1 else N (o + 5) x) ∧ (M (o + 6) = N (o + 6))
set_option maxRecDepth 100000 in
theorem AdC.a6 {o : Nat} {sz : Nat} {s i j : Int} {N M : NW} (h : AdC o sz s i j N M) : M o 6 = (sz : Int) + 1 := by sorry
set_option maxRecDepth 100000 in
theorem AdC.a1 {o : Nat} {sz : Nat} {s i j : Int} {N M : NW} (h : AdC o sz s i j N M) : ∀ x : Int, M (o + 1) x = if x = sz then s else N (o + 1) x := by sorry
set_option maxRecDepth 100000 in
theorem AdC.a2 {o : Nat} {sz : Nat} {s i j : Int} {N M : NW} (h : AdC o sz s i j N M) : ∀ x : Int, M (o + 2) x = if x = sz then i else N (o + 2) x := by sorry
set_option maxRecDepth 100000 in
theorem AdC.a3 {o : Nat} {sz : Nat} {s i j : Int} {N M : NW} (h : AdC o sz s i j N M) : ∀ x : Int, M (o + 3) x = if x = sz then j else N (o + 3) x := by sorry
set_option maxRecDepth 100000 in
theorem AdC.a4 {o : Nat} {sz : Nat} {s i j : Int} {N M : NW} (h : AdC o sz s i j N M) : ∀ x : Int, M (o + 4) x = if x = sz then -1 else N (o + 4) x := by sorry
set_option maxRecDepth 100000 in
theorem AdC.a5 {o : Nat} {sz : Nat} {s i j : Int} {N M : NW} (h : AdC o sz s i j N M) : ∀ x : Int, M (o + 5) x = if x = sz then -1 else N (o + 5) x := by sorry
set_option maxRecDepth 100000 in
theorem AdC.a7 {o : Nat} {sz : Nat} {s i j : Int} {N M : NW} (h : AdC o sz s i j N M) : M (o + 6) = N (o + 6) := by sorry
abbrev FoP (o : Nat) (b : Lb) (lim : Int) (ws σ : List Int) (W : Int → Int → Int → Nat) (T : Nat → T3) (v sz0 sz : Nat) (N : NW) : Prop := (N o 6 = (sz : Nat)) ∧ (∀ x : Nat, x < sz → (N (o + 1) x = sIx σ (T x).s ∧ N (o + 2) x = (T x).i ∧ N (o + 3) x = (T x).j) ∧ gdT W ws.length (T x) ∧ (T x).s ∈ σ) ∧ (∀ x : Nat, v + 1 ≤ x → x < sz → N (o + 4) x = -1 ∧ N (o + 5) x = -1) ∧ (∀ x : Nat, x < v → leT (lfS b ws) (T x) → N (o + 4) x = -1 ∧ N (o + 5) x = wS ws (T x).i) ∧ (∀ x : Nat, x < v → ¬ leT (lfS b ws) (T x) → ∃ r y : Nat, (r < (rlF b b.st.length).length ∧ rlN b r = ruT b lim W (wS ws) (T x)) ∧ N (o + 4) x = (r : Nat) ∧ N (o + 6) x = (y : Nat) ∧ x < y ∧ y + (b.st.getD (rlN b r) nul).hyp.length ≤ sz ∧ ∀ k, k < (b.st.getD (rlN b r) nul).hyp.length → T (y + k) = kiT b lim W (wS ws) (T x) k) ∧ (∀ y : Nat, 1 ≤ y → y < sz → ∃ x k, x < y ∧ ¬ leT (lfS b ws) (T x) ∧ k < (b.st.getD (ruT b lim W (wS ws) (T x)) nul).hyp.length ∧ T y = kiT b lim W (wS ws) (T x) k) ∧ (v < sz0 ∧ sz0 ≤ sz) ∧ (∀ k, k < sz - sz0 → T (sz0 + k) = kiT b lim W (wS ws) (T v) k)
set_option maxRecDepth 100000 in
theorem FoP.n6 {o : Nat} {b : Lb} {lim : Int} {ws σ : List Int} {W : Int → Int → Int → Nat} {T : Nat → T3} {v sz0 sz : Nat} {N : NW} (h : FoP o b lim ws σ W T v sz0 sz N) : N o 6 = (sz : Nat) := by sorry
set_option maxRecDepth 100000 in
theorem FoP.nd {o : Nat} {b : Lb} {lim : Int} {ws σ : List Int} {W : Int → Int → Int → Nat} {T : Nat → T3} {v sz0 sz : Nat} {N : NW} (h : FoP o b lim ws σ W T v sz0 sz N) : ∀ x : Nat, x < sz → (N (o + 1) x = sIx σ (T x).s ∧ N (o + 2) x = (T x).i ∧ N (o + 3) x = (T x).j) ∧ gdT W ws.length (T x) ∧ (T x).s ∈ σ := by sorry
set_option maxRecDepth 100000 in
theorem FoP.nw {o : Nat} {b : Lb} {lim : Int} {ws σ : List Int} {W : Int → Int → Int → Nat} {T : Nat → T3} {v sz0 sz : Nat} {N : NW} (h : FoP o b lim ws σ W T v sz0 sz N) : ∀ x : Nat, v + 1 ≤ x → x < sz → N (o + 4) x = -1 ∧ N (o + 5) x = -1 := by sorry
set_option maxRecDepth 100000 in
theorem FoP.lf {o : Nat} {b : Lb} {lim : Int} {ws σ : List Int} {W : Int → Int → Int → Nat} {T : Nat → T3} {v sz0 sz : Nat} {N : NW} (h : FoP o b lim ws σ W T v sz0 sz N) : ∀ x : Nat, x < v → leT (lfS b ws) (T x) → N (o + 4) x = -1 ∧ N (o + 5) x = wS ws (T x).i := by sorry
set_option maxRecDepth 100000 in
theorem FoP.ru {o : Nat} {b : Lb} {lim : Int} {ws σ : List Int} {W : Int → Int → Int → Nat} {T : Nat → T3} {v sz0 sz : Nat} {N : NW} (h : FoP o b lim ws σ W T v sz0 sz N) : ∀ x : Nat, x < v → ¬ leT (lfS b ws) (T x) → ∃ r y : Nat, (r < (rlF b b.st.length).length ∧ rlN b r = ruT b lim W (wS ws) (T x)) ∧ N (o + 4) x = (r : Nat) ∧ N (o + 6) x = (y : Nat) ∧ x < y ∧ y + (b.st.getD (rlN b r) nul).hyp.length ≤ sz ∧ ∀ k, k < (b.st.getD (rlN b r) nul).hyp.length → T (y + k) = kiT b lim W (wS ws) (T x) k := by sorry
set_option maxRecDepth 100000 in
theorem FoP.pa {o : Nat} {b : Lb} {lim : Int} {ws σ : List Int} {W : Int → Int → Int → Nat} {T : Nat → T3} {v sz0 sz : Nat} {N : NW} (h : FoP o b lim ws σ W T v sz0 sz N) : ∀ y : Nat, 1 ≤ y → y < sz → ∃ x k, x < y ∧ ¬ leT (lfS b ws) (T x) ∧ k < (b.st.getD (ruT b lim W (wS ws) (T x)) nul).hyp.length ∧ T y = kiT b lim W (wS ws) (T x) k := by sorry
set_option maxRecDepth 100000 in
theorem FoP.vz {o : Nat} {b : Lb} {lim : Int} {ws σ : List Int} {W : Int → Int → Int → Nat} {T : Nat → T3} {v sz0 sz : Nat} {N : NW} (h : FoP o b lim ws σ W T v sz0 sz N) : v < sz0 ∧ sz0 ≤ sz := by sorry
set_option maxRecDepth 100000 in
theorem FoP.ks {o : Nat} {b : Lb} {lim : Int} {ws σ : List Int} {W : Int → Int → Int → Nat} {T : Nat → T3} {v sz0 sz : Nat} {N : NW} (h : FoP o b lim ws σ W T v sz0 sz N) : ∀ k, k < sz - sz0 → T (sz0 + k) = kiT b lim W (wS ws) (T v) k := by sorry
set_option maxRecDepth 100000 in
theorem FoP.fr {sz0 : Nat} (h : FoP o b lim ws σ W T v sz0 sz N) (e0 : M o 6 = N o 6) (e : ∀ k, 1 ≤ k → k ≤ 6 → M (o + k) = N (o + k)) : FoP o b lim ws σ W T v sz0 sz M := by sorry
set_option maxRecDepth 100000 in
theorem FoP.add {sz0 : Nat} {t : T3} (h : FoP o b lim ws σ W T v sz0 sz N) (a : AdC o sz (sIx σ t.s) t.i t.j N M) (g : gdT W ws.length t) (ts : t.s ∈ σ) (nl : ¬ leT (lfS b ws) (T v)) (hk : sz - sz0 < (b.st.getD (ruT b lim W (wS ws) (T v)) nul).hyp.length) (ht : t = kiT b lim W (wS ws) (T v) (sz - sz0)) : FoP o b lim ws σ W (fup T sz t) v sz0 (sz + 1) M := by sorry
set_option maxRecDepth 100000 in
theorem FoP.done {sz0 r : Nat} (h : FoP o b lim ws σ W T v sz0 sz N) (nl : ¬ leT (lfS b ws) (T v)) (hr : r < (rlF b b.st.length).length) (er : rlN b r = ruT b lim W (wS ws) (T v)) (e4 : N (o + 4) v = (r : Nat)) (e6 : N (o + 6) v = (sz0 : Nat)) (hz : sz = sz0 + (b.st.getD (rlN b r) nul).hyp.length) (bd : v + 1 + sBT b lim W (lfS b ws) (wS ws) T (v + 1) sz ≤ 11817) : FoC o b lim ws σ W T (v + 1) (v + 1) sz N := by sorry
set_option maxRecDepth 100000 in
theorem FoC.leaf (h : FoC o b lim ws σ W T v v sz N) (hv : v < sz) (hl : leT (lfS b ws) (T v)) (e0 : M o 6 = N o 6) (e : ∀ k, 1 ≤ k → k ≤ 6 → k ≠ 5 → M (o + k) = N (o + k)) (e5 : ∀ x : Int, M (o + 5) x = if x = v then wS ws (T v).i else N (o + 5) x) : FoC o b lim ws σ W T (v + 1) (v + 1) sz M := by sorry
set_option maxRecDepth 100000 in
theorem FoC.begin (h : FoC o b lim ws σ W T v v sz N) (hv : v < sz) {r : Int} (e0 : M o 6 = N o 6) (e : ∀ k, 1 ≤ k → k ≤ 6 → k ≠ 4 → k ≠ 6 → M (o + k) = N (o + k)) (e4 : ∀ x : Int, M (o + 4) x = if x = v then r else N (o + 4) x) (e6 : ∀ x : Int, x ≠ v → M (o + 6) x = N (o + 6) x) : FoP o b lim ws σ W T v sz sz M := by sorry
end FO2
end
section
abbrev BdE (b : Lb) (lim : Int) (ws σ : List Int) (np : Nat) (up : Nat → Nat) (cd : Nat → Int) (pt : Nat → List Int) (ls : Nat → Int) (en : Nat → Nat) (W : Int → Int → Int → Nat) (G : Gh) (N : NW) (R : RW_) : Prop := (CTe b lim ws σ np up cd pt ls en W N) ∧ (HS G N R) ∧ (VSp (lfI b σ ws) ws.length G R N) ∧ (∀ p : Nat, p < ws.length → 0 ≤ lfS b ws p → lfS b ws p ∈ σ)
set_option maxRecDepth 100000 in
theorem BdE.E {b : Lb} {lim : Int} {ws σ : List Int} {np : Nat} {up : Nat → Nat} {cd : Nat → Int} {pt : Nat → List Int} {ls : Nat → Int} {en : Nat → Nat} {W : Int → Int → Int → Nat} {G : Gh} {N : NW} {R : RW_} (h : BdE b lim ws σ np up cd pt ls en W G N R) : CTe b lim ws σ np up cd pt ls en W N := by sorry
set_option maxRecDepth 100000 in
theorem BdE.hs {b : Lb} {lim : Int} {ws σ : List Int} {np : Nat} {up : Nat → Nat} {cd : Nat → Int} {pt : Nat → List Int} {ls : Nat → Int} {en : Nat → Nat} {W : Int → Int → Int → Nat} {G : Gh} {N : NW} {R : RW_} (h : BdE b lim ws σ np up cd pt ls en W G N R) : HS G N R := by sorry
set_option maxRecDepth 100000 in
theorem BdE.vs {b : Lb} {lim : Int} {ws σ : List Int} {np : Nat} {up : Nat → Nat} {cd : Nat → Int} {pt : Nat → List Int} {ls : Nat → Int} {en : Nat → Nat} {W : Int → Int → Int → Nat} {G : Gh} {N : NW} {R : RW_} (h : BdE b lim ws σ np up cd pt ls en W G N R) : VSp (lfI b σ ws) ws.length G R N := by sorry
set_option maxRecDepth 100000 in
theorem BdE.ty {b : Lb} {lim : Int} {ws σ : List Int} {np : Nat} {up : Nat → Nat} {cd : Nat → Int} {pt : Nat → List Int} {ls : Nat → Int} {en : Nat → Nat} {W : Int → Int → Int → Nat} {G : Gh} {N : NW} {R : RW_} (h : BdE b lim ws σ np up cd pt ls en W G N R) : ∀ p : Nat, p < ws.length → 0 ≤ lfS b ws p → lfS b ws p ∈ σ := by sorry
section CBD
variable {b : Lb} {lim : Int} {ws σ : List Int} {np : Nat} {up : Nat → Nat} {cd : Nat → Int} {pt : Nat → List Int} {ls : Nat → Int} {en : Nat → Nat} {W : Int → Int → Int → Nat} {G : Gh} {N : NW} {R : RW_}
set_option maxRecDepth 100000 in
theorem CTe.mv {M : NW} {R' : RW_} (h : CTe b lim ws σ np up cd pt ls en W N) (hH : HS G N R) (m : Mv Wbd Lgr [] G N R G M R') : CTe b lim ws σ np up cd pt ls en W M := by sorry
set_option maxRecDepth 100000 in
theorem rl_ge {r r0 : Nat} (h1 : r < r0) (h2 : r0 < (rlF b b.st.length).length) : rlN b r < rlN b r0 := by sorry
set_option maxRecDepth 100000 in
theorem rl_ix {i : Nat} (h : i ∈ rlF b b.st.length) : ∃ r, r < (rlF b b.st.length).length ∧ rlN b r = i := by sorry
set_option maxRecDepth 100000 in
theorem q_add_575 {sz : Nat} {s i j : Int} (h : N 575 6 = (sz : Nat)) (hz : sz < 12000) : ∃ M, (∀ n, kX10_add_575 n s i j N = some ((sz : Int), M)) ∧ AdC 575 sz s i j N M ∧ FrL [(575, some 6), (576, none), (577, none), (578, none), (579, none), (580, none)] N M := by sorry
set_option maxRecDepth 100000 in
theorem FrL.rul {M : NW} {T : Nat → T3} {v u sz : Nat} (F : FrL L606 N M) (h : FoC 575 b lim ws σ W T v u sz N) : FoC 575 b lim ws σ W T v u sz M := by sorry
set_option maxRecDepth 100000 in
theorem exp_l47_575 {K : Int → NW → RW_ → OH Int} {Q : Int → NW → RW_ → Nat → Nat → Prop} {N0 : NW} {T : Nat → T3} {v sz r0 i e : Nat} (h : CTe b lim ws σ np up cd pt ls en W N0) (F0 : FoC 575 b lim ws σ W T v v sz N0) (hv : v < sz) (hi : (T v).i = i) (hj : (T v).j = e) (hr0 : r0 < (rlF b b.st.length).length) (er : rlN b r0 = ruT b lim W (wS ws) (T v)) (nl : ¬ leT (lfS b ws) (T v)) (hK : ∀ M, FrL L606 N0 M → TbF b W (wS ws) (b.st.getD (rlN b r0) nul).row.tail i e M → Eh (K (r0 : Nat) M R) Q) : ∀ (d n r : Nat) (N : NW), r + d = r0 → d + 6000 < n → FrL L606 N0 N → Eh (hX11_expand_575_l47 v i e K n r N R) Q := by sorry
end CBD
end
section
section CB2
variable {b : Lb} {lim : Int} {ws σ : List Int} {np : Nat} {up : Nat → Nat} {cd : Nat → Int} {pt : Nat → List Int} {ls : Nat → Int} {en : Nat → Nat} {W : Int → Int → Int → Nat} {G : Gh} {N : NW} {R : RW_}
def rsB' (b : Lb) (lim : Int) (W : Int → Int → Int → Nat) (ws : List Int) (t : T3) (m k : Nat) : Nat := ((List.range (m - k)).map fun g => bdT b lim W (lfS b ws) (wS ws) (kiT b lim W (wS ws) t (k + g))).sum
set_option maxRecDepth 100000 in
theorem rsB'_cons {t : T3} {m k : Nat} (h : k < m) : rsB' b lim W ws t m k = bdT b lim W (lfS b ws) (wS ws) (kiT b lim W (wS ws) t k) + rsB' b lim W ws t m (k + 1) := by sorry
def Wb_575 : List Nat := [576, 577, 578, 579, 580, 581, 606, 607, 608]
def Lb_575 : List (Nat × Int) := [(575, 6)]
def Lkid_575 : List (Nat × Option Int) := [(575, some 6), (576, none), (577, none), (578, none), (579, none), (580, none)]
set_option maxRecDepth 100000 in
theorem exp_l110_575 {K : NW → RW_ → OH Int} {Q : Int → NW → RW_ → Nat → Nat → Prop} {N0 : NW} {t : T3} {T0 : Nat → T3} {v sz0 r0 : Nat} (h : CTe b lim ws σ np up cd pt ls en W N0) (hr0 : r0 < (rlF b b.st.length).length) (l60 : (b.st.getD (rlN b r0) nul).row.length ≤ 60) (er : rlN b r0 = ruT b lim W (wS ws) t) (g : gdT W ws.length t) (nl : ¬ leT (lfS b ws) t) (wh : ∀ g : Nat, g < (b.st.getD (rlN b r0) nul).hyp.length → N0 607 g = (whe b W (wS ws) t (rlN b r0) (rvr b ((b.st.getD (rlN b r0) nul).hyp.getD g 0))).1 ∧ N0 608 g = (whe b W (wS ws) t (rlN b r0) (rvr b ((b.st.getD (rlN b r0) nul).hyp.getD g 0))).2) (hK : ∀ M T, FrL Lkid_575 N0 M → T v = t → FoP 575 b lim ws σ W T v sz0 (sz0 + (b.st.getD (rlN b r0) nul).hyp.length) M → M 579 v = N0 579 v → v + 1 + sBT b lim W (lfS b ws) (wS ws) T (v + 1) (sz0 + (b.st.getD (rlN b r0) nul).hyp.length) ≤ 11817 → (∀ x, x < sz0 → T x = T0 x) → Eh (K M R) Q) : ∀ (d n k : Nat) (N : NW) (T : Nat → T3), k + d = (b.st.getD (rlN b r0) nul).hyp.length → d + 200 < n → FrL Lkid_575 N0 N → T v = t → FoP 575 b lim ws σ W T v sz0 (sz0 + k) N → N 579 v = N0 579 v → v + 1 + sBT b lim W (lfS b ws) (wS ws) T (v + 1) (sz0 + k) + rsB' b lim W ws t (b.st.getD (rlN b r0) nul).hyp.length k ≤ 11817 → (∀ x, x < sz0 → T x = T0 x) → Eh (hX11_expand_575_l110 r0 K n k N R) Q := by sorry
set_option maxRecDepth 100000 in
theorem whole_rs {t : T3} (gf : GrF b) (wf : Wf b) (h1 : ruT b lim W (wS ws) t ∈ rsL b lim) : rsB' b lim W ws t (b.st.getD (ruT b lim W (wS ws) t) nul).hyp.length 0 = sumV b (bdT b lim W (lfS b ws) (wS ws)) (cutT b W (wS ws) t.i (b.st.getD (ruT b lim W (wS ws) t) nul).row.tail.reverse t.j) := by sorry
set_option maxRecDepth 100000 in
theorem q_expand_575 {n v sz : Nat} {N0 : NW} {T : Nat → T3} (hn : 2010000 ≤ n) (B : BdE b lim ws σ np up cd pt ls en W G N0 R) (m : Mv Wb_575 Lb_575 [] G N0 R G N R) (F0 : FoC 575 b lim ws σ W T v v sz N) (hv : v < sz) {X : OH Int} (hX : hX11_expand_575 n v N R = X) : Eh X (fun _ N' R' c s => R' = R ∧ c = 0 ∧ s = 0 ∧ Mv Wb_575 Lb_575 [] G N0 R G N' R ∧ ∃ T' sz', T' 0 = T 0 ∧ FoC 575 b lim ws σ W T' (v + 1) (v + 1) sz' N') := by sorry
end CB2
end
section
section CB3
variable {b : Lb} {lim : Int} {ws σ : List Int} {np : Nat} {up : Nat → Nat} {cd : Nat → Int} {pt : Nat → List Int} {ls : Nat → Int} {en : Nat → Nat} {W : Int → Int → Int → Nat} {G : Gh} {N : NW} {R : RW_}
set_option maxRecDepth 100000 in
theorem bld_l18_575 {K : NW → RW_ → OH Int} {Q : Int → NW → RW_ → Nat → Nat → Prop} {N0 : NW} {T0 : T3} (B : BdE b lim ws σ np up cd pt ls en W G N0 R) (hK : ∀ N' T sz, Mv Wb_575 Lb_575 [] G N0 R G N' R → T 0 = T0 → FoC 575 b lim ws σ W T sz sz sz N' → Eh (K N' R) Q) : ∀ (d n v sz : Nat) (N : NW) (T : Nat → T3), v + d = 11818 → d + 2020000 < n → Mv Wb_575 Lb_575 [] G N0 R G N R → T 0 = T0 → FoC 575 b lim ws σ W T v v sz N → Eh (hX11_build_575_l18 K n v N R) Q := by sorry
set_option maxRecDepth 100000 in
theorem q_build_575 {n : Nat} {s : Int} (hn : 2100000 ≤ n) (B : BdE b lim ws σ np up cd pt ls en W G N R) (hs : s ∈ σ) (hl : 0 < ws.length) (h1 : W s 0 ws.length = 1) {X : OH Int} (hX : hX11_build_575 n (sIx σ s) N R = X) : Eh X (fun _ N' R' c s' => R' = R ∧ c = 0 ∧ s' = 0 ∧ Mv Wb_575 Lb_575 [] G N R G N' R ∧ ∃ T sz, T 0 = mkT3 s 0 ws.length ∧ FoC 575 b lim ws σ W T sz sz sz N') := by sorry
end CB3
end
section
section CB4
variable {b : Lb} {lim : Int} {ws σ : List Int} {np : Nat} {up : Nat → Nat} {cd : Nat → Int} {pt : Nat → List Int} {ls : Nat → Int} {en : Nat → Nat} {W : Int → Int → Int → Nat} {G : Gh} {N : NW} {R : RW_}
set_option maxRecDepth 100000 in
theorem q_add_582 {sz : Nat} {s i j : Int} (h : N 582 6 = (sz : Nat)) (hz : sz < 12000) : ∃ M, (∀ n, kX10_add_582 n s i j N = some ((sz : Int), M)) ∧ AdC 582 sz s i j N M ∧ FrL [(582, some 6), (583, none), (584, none), (585, none), (586, none), (587, none)] N M := by sorry
set_option maxRecDepth 100000 in
theorem FrL.rul2 {M : NW} {T : Nat → T3} {v u sz : Nat} (F : FrL L606 N M) (h : FoC 582 b lim ws σ W T v u sz N) : FoC 582 b lim ws σ W T v u sz M := by sorry
set_option maxRecDepth 100000 in
theorem exp_l47_582 {K : Int → NW → RW_ → OH Int} {Q : Int → NW → RW_ → Nat → Nat → Prop} {N0 : NW} {T : Nat → T3} {v sz r0 i e : Nat} (h : CTe b lim ws σ np up cd pt ls en W N0) (F0 : FoC 582 b lim ws σ W T v v sz N0) (hv : v < sz) (hi : (T v).i = i) (hj : (T v).j = e) (hr0 : r0 < (rlF b b.st.length).length) (er : rlN b r0 = ruT b lim W (wS ws) (T v)) (nl : ¬ leT (lfS b ws) (T v)) (hK : ∀ M, FrL L606 N0 M → TbF b W (wS ws) (b.st.getD (rlN b r0) nul).row.tail i e M → Eh (K (r0 : Nat) M R) Q) : ∀ (d n r : Nat) (N : NW), r + d = r0 → d + 6000 < n → FrL L606 N0 N → Eh (hX11_expand_582_l47 v i e K n r N R) Q := by sorry
def Wb_582 : List Nat := [583, 584, 585, 586, 587, 588, 606, 607, 608]
def Lb_582 : List (Nat × Int) := [(582, 6)]
def Lkid_582 : List (Nat × Option Int) := [(582, some 6), (583, none), (584, none), (585, none), (586, none), (587, none)]
set_option maxRecDepth 100000 in
theorem exp_l110_582 {K : NW → RW_ → OH Int} {Q : Int → NW → RW_ → Nat → Nat → Prop} {N0 : NW} {t : T3} {T0 : Nat → T3} {v sz0 r0 : Nat} (h : CTe b lim ws σ np up cd pt ls en W N0) (hr0 : r0 < (rlF b b.st.length).length) (l60 : (b.st.getD (rlN b r0) nul).row.length ≤ 60) (er : rlN b r0 = ruT b lim W (wS ws) t) (g : gdT W ws.length t) (nl : ¬ leT (lfS b ws) t) (wh : ∀ g : Nat, g < (b.st.getD (rlN b r0) nul).hyp.length → N0 607 g = (whe b W (wS ws) t (rlN b r0) (rvr b ((b.st.getD (rlN b r0) nul).hyp.getD g 0))).1 ∧ N0 608 g = (whe b W (wS ws) t (rlN b r0) (rvr b ((b.st.getD (rlN b r0) nul).hyp.getD g 0))).2) (hK : ∀ M T, FrL Lkid_582 N0 M → T v = t → FoP 582 b lim ws σ W T v sz0 (sz0 + (b.st.getD (rlN b r0) nul).hyp.length) M → M 586 v = N0 586 v → v + 1 + sBT b lim W (lfS b ws) (wS ws) T (v + 1) (sz0 + (b.st.getD (rlN b r0) nul).hyp.length) ≤ 11817 → (∀ x, x < sz0 → T x = T0 x) → Eh (K M R) Q) : ∀ (d n k : Nat) (N : NW) (T : Nat → T3), k + d = (b.st.getD (rlN b r0) nul).hyp.length → d + 200 < n → FrL Lkid_582 N0 N → T v = t → FoP 582 b lim ws σ W T v sz0 (sz0 + k) N → N 586 v = N0 586 v → v + 1 + sBT b lim W (lfS b ws) (wS ws) T (v + 1) (sz0 + k) + rsB' b lim W ws t (b.st.getD (rlN b r0) nul).hyp.length k ≤ 11817 → (∀ x, x < sz0 → T x = T0 x) → Eh (hX11_expand_582_l110 r0 K n k N R) Q := by sorry
set_option maxRecDepth 100000 in
theorem q_expand_582 {n v sz : Nat} {N0 : NW} {T : Nat → T3} (hn : 2010000 ≤ n) (B : BdE b lim ws σ np up cd pt ls en W G N0 R) (m : Mv Wb_582 Lb_582 [] G N0 R G N R) (F0 : FoC 582 b lim ws σ W T v v sz N) (hv : v < sz) {X : OH Int} (hX : hX11_expand_582 n v N R = X) : Eh X (fun _ N' R' c s => R' = R ∧ c = 0 ∧ s = 0 ∧ Mv Wb_582 Lb_582 [] G N0 R G N' R ∧ ∃ T' sz', T' 0 = T 0 ∧ FoC 582 b lim ws σ W T' (v + 1) (v + 1) sz' N') := by sorry
set_option maxRecDepth 100000 in
theorem bld_l18_582 {K : NW → RW_ → OH Int} {Q : Int → NW → RW_ → Nat → Nat → Prop} {N0 : NW} {T0 : T3} (B : BdE b lim ws σ np up cd pt ls en W G N0 R) (hK : ∀ N' T sz, Mv Wb_582 Lb_582 [] G N0 R G N' R → T 0 = T0 → FoC 582 b lim ws σ W T sz sz sz N' → Eh (K N' R) Q) : ∀ (d n v sz : Nat) (N : NW) (T : Nat → T3), v + d = 11818 → d + 2020000 < n → Mv Wb_582 Lb_582 [] G N0 R G N R → T 0 = T0 → FoC 582 b lim ws σ W T v v sz N → Eh (hX11_build_582_l18 K n v N R) Q := by sorry
set_option maxRecDepth 100000 in
theorem q_build_582 {n : Nat} {s : Int} (hn : 2100000 ≤ n) (B : BdE b lim ws σ np up cd pt ls en W G N R) (hs : s ∈ σ) (hl : 0 < ws.length) (h1 : W s 0 ws.length = 1) {X : OH Int} (hX : hX11_build_582 n (sIx σ s) N R = X) : Eh X (fun _ N' R' c s' => R' = R ∧ c = 0 ∧ s' = 0 ∧ Mv Wb_582 Lb_582 [] G N R G N' R ∧ ∃ T sz, T 0 = mkT3 s 0 ws.length ∧ FoC 582 b lim ws σ W T sz sz sz N') := by sorry
end CB4
end
section
abbrev MTe (b : Lb) (lim : Int) (ws : List Int) (W : Int → Int → Int → Nat) (N : NW) : Prop := (MLb b N) ∧ (GrF b) ∧ (SoM b N) ∧ (∀ s ∈ sM b, ∀ p q : Nat, p < q → q ≤ ws.length → N 722 ((sIx (sM b) s * 61 + p) * 61 + q) = (W s p q : Nat)) ∧ (GrOK (rsB b lim) (lfS b ws) (wS ws) ws.length W) ∧ (∀ s ∈ sM b, ∀ p q : Nat, p < q → q ≤ ws.length → MbF b W (wS ws) lim s p q N) ∧ (∀ p : Nat, p < ws.length → N 719 p = wS ws p) ∧ (∀ p : Nat, p < ws.length → N 720 p = lfI b (sM b) ws p) ∧ (N 643 121 = (ws.length : Nat)) ∧ (N 643 142 = lim) ∧ (N 643 140 = ((rlU b b.st.length).length : Nat)) ∧ (Sg (N 735) 0 ((rlU b b.st.length).map fun (u : Nat) => (u : Int))) ∧ (ws.length ≤ 59)
set_option maxRecDepth 100000 in
theorem MTe.hb {b : Lb} {lim : Int} {ws : List Int} {W : Int → Int → Int → Nat} {N : NW} (h : MTe b lim ws W N) : MLb b N := by sorry
set_option maxRecDepth 100000 in
theorem MTe.gf {b : Lb} {lim : Int} {ws : List Int} {W : Int → Int → Int → Nat} {N : NW} (h : MTe b lim ws W N) : GrF b := by sorry
set_option maxRecDepth 100000 in
theorem MTe.so {b : Lb} {lim : Int} {ws : List Int} {W : Int → Int → Int → Nat} {N : NW} (h : MTe b lim ws W N) : SoM b N := by sorry
set_option maxRecDepth 100000 in
theorem MTe.ct {b : Lb} {lim : Int} {ws : List Int} {W : Int → Int → Int → Nat} {N : NW} (h : MTe b lim ws W N) : ∀ s ∈ sM b, ∀ p q : Nat, p < q → q ≤ ws.length → N 722 ((sIx (sM b) s * 61 + p) * 61 + q) = (W s p q : Nat) := by sorry
set_option maxRecDepth 100000 in
theorem MTe.ok {b : Lb} {lim : Int} {ws : List Int} {W : Int → Int → Int → Nat} {N : NW} (h : MTe b lim ws W N) : GrOK (rsB b lim) (lfS b ws) (wS ws) ws.length W := by sorry
set_option maxRecDepth 100000 in
theorem MTe.mf {b : Lb} {lim : Int} {ws : List Int} {W : Int → Int → Int → Nat} {N : NW} (h : MTe b lim ws W N) : ∀ s ∈ sM b, ∀ p q : Nat, p < q → q ≤ ws.length → MbF b W (wS ws) lim s p q N := by sorry
set_option maxRecDepth 100000 in
theorem MTe.r719 {b : Lb} {lim : Int} {ws : List Int} {W : Int → Int → Int → Nat} {N : NW} (h : MTe b lim ws W N) : ∀ p : Nat, p < ws.length → N 719 p = wS ws p := by sorry
set_option maxRecDepth 100000 in
theorem MTe.r720 {b : Lb} {lim : Int} {ws : List Int} {W : Int → Int → Int → Nat} {N : NW} (h : MTe b lim ws W N) : ∀ p : Nat, p < ws.length → N 720 p = lfI b (sM b) ws p := by sorry
set_option maxRecDepth 100000 in
theorem MTe.n121 {b : Lb} {lim : Int} {ws : List Int} {W : Int → Int → Int → Nat} {N : NW} (h : MTe b lim ws W N) : N 643 121 = (ws.length : Nat) := by sorry
set_option maxRecDepth 100000 in
theorem MTe.n142 {b : Lb} {lim : Int} {ws : List Int} {W : Int → Int → Int → Nat} {N : NW} (h : MTe b lim ws W N) : N 643 142 = lim := by sorry
set_option maxRecDepth 100000 in
theorem MTe.n140 {b : Lb} {lim : Int} {ws : List Int} {W : Int → Int → Int → Nat} {N : NW} (h : MTe b lim ws W N) : N 643 140 = ((rlU b b.st.length).length : Nat) := by sorry
set_option maxRecDepth 100000 in
theorem MTe.un {b : Lb} {lim : Int} {ws : List Int} {W : Int → Int → Int → Nat} {N : NW} (h : MTe b lim ws W N) : Sg (N 735) 0 ((rlU b b.st.length).map fun (u : Nat) => (u : Int)) := by sorry
set_option maxRecDepth 100000 in
theorem MTe.hz {b : Lb} {lim : Int} {ws : List Int} {W : Int → Int → Int → Nat} {N : NW} (h : MTe b lim ws W N) : ws.length ≤ 59 := by sorry
def Lmt : List (Nat × Option Int) := [(643, some 150), (643, some 151), (736, none), (737, none), (738, none), (739, none), (740, none), (741, none), (742, none)]
section MMA
variable {b : Lb} {lim : Int} {ws : List Int} {W : Int → Int → Int → Nat} {N : NW}
set_option maxRecDepth 100000 in
theorem MTe.fr {M : NW} (h : MTe b lim ws W N) (F : FrL Lmt N M) : MTe b lim ws W M := by sorry
def L736 : List (Nat × Option Int) := [(736, none)]
set_option maxRecDepth 100000 in
theorem mm_l109 {v4 v5 : Int} {K : NW → OR} {Q : Int → NW → Prop} {N0 : NW} {i e : Nat} (he : e ≤ 59) (hK : ∀ M, FrL L736 N0 M → (∀ q : Nat, i ≤ q → q ≤ e → M 736 q = if q = i then 1 else 0) → Ev (K M) Q) : ∀ (d n v : Nat) (N : NW), v + d = e + 1 → d < n → FrL L736 N0 N → (∀ q : Nat, i ≤ q → q < v → N 736 q = if q = i then 1 else 0) → Ev (m_match_l109 i e v4 v5 K n v N) Q := by sorry
set_option maxRecDepth 100000 in
theorem mm_l169 {v4 v5 v7 v8 : Int} {K : NW → OR} {Q : Int → NW → Prop} {N0 : NW} {i e k : Nat} (he : e ≤ 59) (hk : k ≤ 59) (hK : ∀ M, FrL L736 N0 M → (∀ q : Nat, i ≤ q → q ≤ e → M 736 (61 * (k : Int) + q) = 0) → (∀ x : Int, x < 61 * (k : Int) → M 736 x = N0 736 x) → Ev (K M) Q) : ∀ (d n v : Nat) (N : NW), v + d = e + 1 → d < n → FrL L736 N0 N → (∀ q : Nat, i ≤ q → q < v → N 736 (61 * (k : Int) + q) = 0) → (∀ x : Int, x < 61 * (k : Int) → N 736 x = N0 736 x) → Ev (m_match_l169 i e v4 v5 k v7 v8 K n v N) Q := by sorry
abbrev RoM (i e k : Nat) (A : Nat → Nat) (N0 N : NW) : Prop := (∀ q : Nat, i ≤ q → q ≤ e → N 736 (61 * (k : Int) + q) = (A q : Nat) ∧ A q ≤ 2) ∧ (∀ x : Int, x < 61 * (k : Int) → N 736 x = N0 736 x)
set_option maxRecDepth 100000 in
theorem RoM.a {i e k : Nat} {A : Nat → Nat} {N0 N : NW} (h : RoM i e k A N0 N) : ∀ q : Nat, i ≤ q → q ≤ e → N 736 (61 * (k : Int) + q) = (A q : Nat) ∧ A q ≤ 2 := by sorry
set_option maxRecDepth 100000 in
theorem RoM.o {i e k : Nat} {A : Nat → Nat} {N0 N : NW} (h : RoM i e k A N0 N) : ∀ x : Int, x < 61 * (k : Int) → N 736 x = N0 736 x := by sorry
set_option maxRecDepth 100000 in
theorem RoM.cg {i e k : Nat} {A A' : Nat → Nat} {N0 N : NW} (h : RoM i e k A N0 N) (ha : ∀ q, i ≤ q → q ≤ e → A' q = A q) : RoM i e k A' N0 N := by sorry
set_option maxRecDepth 100000 in
theorem RoM.put {i e k q0 v : Nat} {A : Nat → Nat} {N0 N : NW} (h : RoM i e k A N0 N) (hv : v ≤ 2) : RoM i e k (fun q => if q = q0 then v else A q) N0 (up2 N 736 (61 * (k : Int) + q0) (v : Nat)) := by sorry
set_option maxRecDepth 100000 in
theorem mm_l339 {v2 v4 v5 v7 : Int} {K : Int → NW → OR} {Q : Int → NW → Prop} {N0 : NW} {A0 : Nat → Nat} {i e k p g l : Nat} {t B lo : Int} (hB : B ≤ 1000000) (h0 : 0 ≤ lo) (h : MTe b lim ws W N0) (ht : t ∈ sM b) (he : e ≤ ws.length) (hk : k ≤ 59) (hip : i ≤ p) (hle : l ≤ e) (hg : g ≤ 2) (hK : ∀ M (v : Int), FrL L736 N0 M → RoM i e k (fun q => if p < q ∧ q ≤ l then cap2 (A0 q + g * W t p q) else A0 q) N0 M → (lo ≤ v ∧ v ≤ B) → (∀ q : Nat, p < q → q ≤ l → 0 < W t p q → 1 ≤ v) → Ev (K v M) Q) : ∀ (d n v : Nat) (v8 : Int) (N : NW), v + d = l + 1 → p < v → d < n → FrL L736 N0 N → RoM i e k (fun q => if p < q ∧ q < v then cap2 (A0 q + g * W t p q) else A0 q) N0 N → (lo ≤ v8 ∧ v8 + 2 * (d : Int) ≤ B) → (∀ q : Nat, p < q → q < v → 0 < W t p q → 1 ≤ v8) → Ev (m_match_l339 v2 e v4 v5 k v7 p g (sIx (sM b) t) l K n v8 v N) Q := by sorry
end MMA
end
section
section MM2
variable {b : Lb} {lim : Int} {ws : List Int} {W : Int → Int → Int → Nat} {N : NW}
def nAA (b : Lb) (W : Int → Int → Int → Nat) (w : Int → Int) (i l : Nat) (G : Nat → Nat) (s : Int) (v q : Nat) : Nat := if b.con s = true then (if i < q ∧ q ≤ v ∧ w ((q - 1 : Nat) : Int) = s then G (q - 1) else 0) else (if q ≤ l then cap2 (sumR (fun p => if p < (q : Int) then G p.toNat * W (b.typ s) p q else 0) i (v - i)) else 0)
set_option maxRecDepth 100000 in
theorem mm_l198 {v5 : Int} {K : Int → NW → OR} {Q : Int → NW → Prop} {N0 : NW} {G : Nat → Nat} {i e k m l : Nat} {s : Int} (h : MTe b lim ws W N0) (hs : 0 ≤ s ∧ s < b.sy.length) (ht : b.con s = false → b.typ s ∈ sM b) (he : e ≤ ws.length) (hk : 1 ≤ k ∧ k ≤ m) (hm : m ≤ 59) (hl : l + (m - k) = e) (hG : ∀ q : Nat, i ≤ q → q ≤ e → N0 736 (61 * ((k - 1 : Nat) : Int) + q) = (G q : Nat) ∧ G q ≤ 2) (hK : ∀ M (v : Int), FrL L736 N0 M → RoM i e k (nAA b W (wS ws) i l G s e) N0 M → (∀ p : Nat, i ≤ p → p < e → 0 < G p → (b.con s = true → wS ws p = s → 1 ≤ v) ∧ (b.con s = false → ∀ q : Nat, p < q → q ≤ l → 0 < W (b.typ s) p q → 1 ≤ v)) → Ev (K v M) Q) : ∀ (d n v : Nat) (v8 : Int) (N : NW), v + d = e → i ≤ v → d + 100 < n → FrL L736 N0 N → RoM i e k (nAA b W (wS ws) i l G s v) N0 N → (0 ≤ v8 ∧ v8 ≤ 130 * ((v : Int) - i)) → (∀ p : Nat, i ≤ p → p < v → 0 < G p → (b.con s = true → wS ws p = s → 1 ≤ v8) ∧ (b.con s = false → ∀ q : Nat, p < q → q ≤ l → 0 < W (b.typ s) p q → 1 ≤ v8)) → Ev (m_match_l198 i e m v5 k s K n v8 v N) Q := by sorry
end MM2
end
