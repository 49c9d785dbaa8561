section
def dr {α : Type} (r : Option Nat) (f : Nat → Option α) : Option α := match r with
  | none => none
  | some a => f a
set_option maxRecDepth 100000 in
theorem dr_some {α : Type} {r : Option Nat} {f : Nat → Option α} {x : α} (h : dr r f = some x) : ∃ a, r = some a ∧ f a = some x := by sorry
set_option maxRecDepth 100000 in
theorem dr_eq {α : Type} {a : Nat} {f : Nat → Option α} : dr (some a) f = f a := by sorry
def rAc (r q : Option Nat) : Bool := match r, q with
  | some a, some b => decide (xK ≤ a) || decide (xK ≤ b) || decide (a = b)
  | _, _ => true
def rIs (R : RW_) (c n : Nat) (r : Option Nat) : Bool := match r with
  | none => true
  | some a => decide (R.2.1 a = (c, n))
def isNd (R : RW_) (a : Nat) : Prop := R.2.1 a = (16, 4) ∨ R.2.1 a = (17, 11)
section R13
variable {C : MC} {Z : ZZ} {pc pc' : Nat} {L : List (Nat × AV)} {st : List AV} {h : Hp} {kc ks : Nat}
set_option maxRecDepth 100000 in
theorem b_ifnull {r : Option Nat} {off : Int} (tgt : Nat) (hd : DI C.2.2.2.1 pc pc' (.ifnull off) 3) (ht : (pc : Int) + off = (tgt : Int)) (kt : r = none → AW C Z tgt L st h kc ks) (kf : ¬ r = none → AW C Z pc' L st h kc ks) : AW C Z pc L (vr r :: st) h kc ks := by sorry
set_option maxRecDepth 100000 in
theorem b_ifnonnull {r : Option Nat} {off : Int} (tgt : Nat) (hd : DI C.2.2.2.1 pc pc' (.ifnonnull off) 3) (ht : (pc : Int) + off = (tgt : Int)) (kt : ¬ r = none → AW C Z tgt L st h kc ks) (kf : r = none → AW C Z pc' L st h kc ks) : AW C Z pc L (vr r :: st) h kc ks := by sorry
set_option maxRecDepth 100000 in
theorem ph_inj {w : WC} {h : Hp} {H : Heap} (hR : Rp w h H) {a b : Nat} (h7a : a < xK → ph w a < wB w) (h7b : b < xK → ph w b < wB w) (hx : xK ≤ a ∨ xK ≤ b ∨ a = b) (e : ph w a = ph w b) : a = b := by sorry
def Low (w : WC) : Prop := ∀ k : Nat, k < xK → ph w k < wB w
set_option maxRecDepth 100000 in
theorem rAc_iff {w : WC} {h : Hp} {H : Heap} (hR : Rp w h H) (hlow : Low w) {r q : Option Nat} (ha : rAc r q = true) : r.map (ph w) = q.map (ph w) ↔ r = q := by sorry
set_option maxRecDepth 100000 in
theorem b_acmp_eq {r q : Option Nat} {off : Int} (hlow : Low C.1) (tgt : Nat) (hd : DI C.2.2.2.1 pc pc' (.if_acmp .eq off) 3) (ha : rAc r q = true) (ht : (pc : Int) + off = (tgt : Int)) (kt : r = q → AW C Z tgt L st h kc ks) (kf : ¬ r = q → AW C Z pc' L st h kc ks) : AW C Z pc L (vr q :: vr r :: st) h kc ks := by sorry
set_option maxRecDepth 100000 in
theorem b_acmp_ne {r q : Option Nat} {off : Int} (hlow : Low C.1) (tgt : Nat) (hd : DI C.2.2.2.1 pc pc' (.if_acmp .ne off) 3) (ha : rAc r q = true) (ht : (pc : Int) + off = (tgt : Int)) (kt : ¬ r = q → AW C Z tgt L st h kc ks) (kf : r = q → AW C Z pc' L st h kc ks) : AW C Z pc L (vr q :: vr r :: st) h kc ks := by sorry
set_option maxRecDepth 100000 in
theorem recO {w : WC} {h : Hp} {H : Heap} {s : State} (hR : Rp w h H) (hK : Kx w s) {a ci n : Nat} {Cn : String} {T : u_T} (hs : hS h a = (ci + 8, n)) (hk : Kl[ci]? = some (Cn, T, n)) : ∃ cell : Cell, H[ph w a]? = some cell ∧ cell.vm.isStatics = false ∧ s.vm.findClass Cn = some cell.cls := by sorry
set_option maxRecDepth 100000 in
theorem b_castS {a ci n idx : Nat} {Cn : String} {T : u_T} (hq : Cond.classLink C.2.2.1 idx Cn ∈ lw_all) (hd : DI C.2.2.2.1 pc pc' (.checkcast idx) 3) (hs : hS h a = (ci + 8, n)) (hk : Kl[ci]? = some (Cn, T, n)) (k : AW C Z pc' L (vr (some a) :: st) h kc ks) : AW C Z pc L (vr (some a) :: st) h kc ks := by sorry
set_option maxRecDepth 100000 in
theorem b_castY {a ci n idx : Nat} {Cn nm : String} {T : u_T} (hq : Cond.classLink C.2.2.1 idx nm ∈ lw_all) (hc : Cond.castable Cn nm ∈ lw_tbl) (hd : DI C.2.2.2.1 pc pc' (.checkcast idx) 3) (hs : hS h a = (ci + 8, n)) (hk : Kl[ci]? = some (Cn, T, n)) (k : AW C Z pc' L (vr (some a) :: st) h kc ks) : AW C Z pc L (vr (some a) :: st) h kc ks := by sorry
set_option maxRecDepth 100000 in
theorem b_castN {idx : Nat} (hd : DI C.2.2.2.1 pc pc' (.checkcast idx) 3) (k : AW C Z pc' L (vr none :: st) h kc ks) : AW C Z pc L (vr none :: st) h kc ks := by sorry
set_option maxRecDepth 100000 in
theorem b_castO {r : Option Nat} {ci n idx : Nat} {Cn : String} {T : u_T} (hq : Cond.classLink C.2.2.1 idx Cn ∈ lw_all) (hd : DI C.2.2.2.1 pc pc' (.checkcast idx) 3) (hs : rIs h.2 (ci + 8) n r = true) (hk : Kl[ci]? = some (Cn, T, n)) (k : AW C Z pc' L (vr r :: st) h kc ks) : AW C Z pc L (vr r :: st) h kc ks := by sorry
set_option maxRecDepth 100000 in
theorem b_instS {a ci n idx : Nat} {Cn : String} {T : u_T} (hq : Cond.classLink C.2.2.1 idx Cn ∈ lw_all) (hd : DI C.2.2.2.1 pc pc' (.instanceof idx) 3) (hs : hS h a = (ci + 8, n)) (hk : Kl[ci]? = some (Cn, T, n)) (k : AW C Z pc' L (vi 1 :: st) h kc ks) : AW C Z pc L (vr (some a) :: st) h kc ks := by sorry
set_option maxRecDepth 100000 in
theorem b_instY {a ci n idx : Nat} {Cn nm : String} {T : u_T} (hq : Cond.classLink C.2.2.1 idx nm ∈ lw_all) (hc : Cond.castable Cn nm ∈ lw_tbl) (hd : DI C.2.2.2.1 pc pc' (.instanceof idx) 3) (hs : hS h a = (ci + 8, n)) (hk : Kl[ci]? = some (Cn, T, n)) (k : AW C Z pc' L (vi 1 :: st) h kc ks) : AW C Z pc L (vr (some a) :: st) h kc ks := by sorry
set_option maxRecDepth 100000 in
theorem b_instNo {a ci n idx : Nat} {Cn nm : String} {T : u_T} (hq : Cond.classLink C.2.2.1 idx nm ∈ lw_all) (hc : (Cn, nm) ∈ ncL) (hd : DI C.2.2.2.1 pc pc' (.instanceof idx) 3) (hs : hS h a = (ci + 8, n)) (hk : Kl[ci]? = some (Cn, T, n)) (k : AW C Z pc' L (vi 0 :: st) h kc ks) : AW C Z pc L (vr (some a) :: st) h kc ks := by sorry
set_option maxRecDepth 100000 in
theorem b_instN {idx : Nat} (hd : DI C.2.2.2.1 pc pc' (.instanceof idx) 3) (k : AW C Z pc' L (vi 0 :: st) h kc ks) : AW C Z pc L (vr none :: st) h kc ks := by sorry
set_option maxRecDepth 100000 in
theorem b_ldcS {idx q : Nat} {tx : String} (hm : (C.2.2.1, idx, tx, q) ∈ sL_) (hd : DI C.2.2.2.1 pc pc' (.ldc idx) 2) (k : AW C Z pc' L (vr (some q) :: st) h kc ks) : AW C Z pc L st h kc ks := by sorry
set_option maxRecDepth 100000 in
theorem b_ldcSw {idx q : Nat} {tx : String} (hm : (C.2.2.1, idx, tx, q) ∈ sL_) (hd : DI C.2.2.2.1 pc pc' (.ldc_w idx) 3) (k : AW C Z pc' L (vr (some q) :: st) h kc ks) : AW C Z pc L st h kc ks := by sorry
set_option maxRecDepth 100000 in
theorem b_ldcM {idx q : Nat} {Cn : String} (hq : Cond.classLink C.2.2.1 idx Cn ∈ lw_all) (hm : (Cn, q) ∈ mL_) (hd : DI C.2.2.2.1 pc pc' (.ldc idx) 2) (k : AW C Z pc' L (vr (some q) :: st) h kc ks) : AW C Z pc L st h kc ks := by sorry
set_option maxRecDepth 100000 in
theorem b_getsR {idx q : Nat} {Cn nm ds : String} (hq : Cond.fieldLink C.2.2.1 idx Cn nm ds ∈ lw_all) (hm : (Cn, nm, ds, q) ∈ zR_) (hd : DI C.2.2.2.1 pc pc' (.getstatic idx) 3) (k : AW C Z pc' L (vr (some q) :: st) h kc ks) : AW C Z pc L st h kc ks := by sorry
set_option maxRecDepth 100000 in
theorem b_getsQ {idx q : Nat} {Cn nm ds : String} (hq : Cond.fieldLink C.2.2.1 idx Cn nm ds ∈ lw_all) (hm : (Cn, nm, ds, q) ∈ zQ_) (hd : DI C.2.2.2.1 pc pc' (.getstatic idx) 3) (k : AW C Z pc' L (vr (qS C.1 q) :: st) h kc ks) : AW C Z pc L st h kc ks := by sorry
set_option maxRecDepth 100000 in
theorem b_cache {i : Int} (hd : DI C.2.2.2.1 pc pc' .aaload 1) (hb : 0 ≤ i ∧ i < 256) (k : AW C Z pc' L (vr (some (100 + i.toNat)) :: st) h kc ks) : AW C Z pc L (vi i :: vr (some 20) :: st) h kc ks := by sorry
end R13
section R14
variable {C : MC} {Z : ZZ} {pc pc' : Nat} {L : List (Nat × AV)} {st : List AV} {N : NW} {R : RW_} {kc ks : Nat}
set_option maxRecDepth 100000 in
theorem r_getr {a ci n k idx : Nat} {ty : FieldType} {r : Option Nat} (hF : FL C.2.2.1 idx ci n k ty) (hd : DI C.2.2.2.1 pc pc' (.getfield idx) 3) (hs : R.2.1 a = (ci + 8, n)) (ht : tR ty = true) {z : Int} (hz : (k : Int) = z) (hr : r = R.1 a z) (kk : AW C Z pc' L (vr r :: st) (N, R) kc ks) : AW C Z pc L (vr (some a) :: st) (N, R) kc ks := by sorry
set_option maxRecDepth 100000 in
theorem r_getNr {a ci n k idx : Nat} {ty : FieldType} {r : Option Nat} (hF : FLn C.2.2.1 idx ci n k ty) (hd : DI C.2.2.2.1 pc pc' (.getfield idx) 3) (hs : R.2.1 a = (ci + 8, n)) (ht : tR ty = true) {z : Int} (hz : (k : Int) = z) (hr : r = R.1 a z) (kk : AW C Z pc' L (vr r :: st) (N, R) kc ks) : AW C Z pc L (vr (some a) :: st) (N, R) kc ks := by sorry
set_option maxRecDepth 100000 in
theorem r_geti2 {a k idx : Nat} {ty : FieldType} (h1 : FL C.2.2.1 idx 8 4 k ty) (h2 : FL C.2.2.1 idx 9 11 k ty) (hd : DI C.2.2.2.1 pc pc' (.getfield idx) 3) (hs : isNd R a) (ht : tI ty = true) {z : Int} (hz : (k : Int) = z) (kk : AW C Z pc' L (vi (N a z) :: st) (N, R) kc ks) : AW C Z pc L (vr (some a) :: st) (N, R) kc ks := by sorry
set_option maxRecDepth 100000 in
theorem r_getr2 {a k idx : Nat} {ty : FieldType} {r : Option Nat} (h1 : FL C.2.2.1 idx 8 4 k ty) (h2 : FL C.2.2.1 idx 9 11 k ty) (hd : DI C.2.2.2.1 pc pc' (.getfield idx) 3) (hs : isNd R a) (ht : tR ty = true) {z : Int} (hz : (k : Int) = z) (hr : r = R.1 a z) (kk : AW C Z pc' L (vr r :: st) (N, R) kc ks) : AW C Z pc L (vr (some a) :: st) (N, R) kc ks := by sorry
set_option maxRecDepth 100000 in
theorem r_aald {a c n : Nat} {i : Int} {r : Option Nat} (hd : DI C.2.2.2.1 pc pc' .aaload 1) (hc : c = 4 ∨ c = 5) (hs : R.2.1 a = (c, n)) (hb : 0 ≤ i ∧ i < n) (hr : r = R.1 a i) (k : AW C Z pc' L (vr r :: st) (N, R) kc ks) : AW C Z pc L (vi i :: vr (some a) :: st) (N, R) kc ks := by sorry
end R14
end

section
def nN (N : NW) (R : RW_) : NW := fun b j => if b = R.2.2 then 0 else N b j
def nR (R : RW_) (c n : Nat) : RW_ := (fun b j => if b = R.2.2 then none else R.1 b j, fun b => if b = R.2.2 then (c, n) else R.2.1 b, R.2.2 + 1)
def sR (R : RW_) (a : Nat) (i : Int) (r : Option Nat) : RW_ := (up2 R.1 a i r, R.2)
def Ly (R : RW_) : Prop := LyC R ∧ LyM R ∧ 759 ≤ R.2.2
abbrev OH (α : Type) : Type := Option ((α × NW × RW_) × Nat × Nat)
def al {α : Type} (n : Nat) (x : OH α) : OH α := match x with
  | none => none
  | some q => some (q.1, q.2.1 + 1, q.2.2 + n)
def bh {α β : Type} (x : OH α) (f : α → NW → RW_ → OH β) : OH β := match x with
  | none => none
  | some q => match f q.1.1 q.1.2.1 q.1.2.2 with
    | none => none
    | some p => some (p.1, p.2.1 + q.2.1, p.2.2 + q.2.2)
def bk {β : Type} (x : OR) (f : Int → NW → OH β) : OH β := match x with
  | none => none
  | some q => f q.1 q.2
set_option maxRecDepth 100000 in
theorem al_some {α : Type} {n : Nat} {x : OH α} {q : α × NW × RW_} {c s : Nat} (h : al n x = some (q, c, s)) : ∃ c1 s1, x = some (q, c1, s1) ∧ c = c1 + 1 ∧ s = s1 + n := by sorry
set_option maxRecDepth 100000 in
theorem bh_some {α β : Type} {x : OH α} {f : α → NW → RW_ → OH β} {q : β × NW × RW_} {c s : Nat} (h : bh x f = some (q, c, s)) : ∃ r N R c1 s1 c2 s2, x = some ((r, N, R), c1, s1) ∧ f r N R = some (q, c2, s2) ∧ c = c2 + c1 ∧ s = s2 + s1 := by sorry
set_option maxRecDepth 100000 in
theorem bk_some {β : Type} {x : OR} {f : Int → NW → OH β} {o : (β × NW × RW_) × Nat × Nat} (h : bk x f = some o) : ∃ v N, x = some (v, N) ∧ f v N = some o := by sorry
set_option maxRecDepth 100000 in
theorem bh_eq {α β : Type} {r : α} {N : NW} {R : RW_} {c1 s1 : Nat} {f : α → NW → RW_ → OH β} {q : β × NW × RW_} {c2 s2 : Nat} (h : f r N R = some (q, c2, s2)) : bh (some ((r, N, R), c1, s1)) f = some (q, c2 + c1, s2 + s1) := by sorry
set_option maxRecDepth 100000 in
theorem bk_eq {β : Type} {v : Int} {N : NW} {f : Int → NW → OH β} : bk (some (v, N)) f = f v N := by sorry
def mayW (c : Nat) : Bool := [4, 5, 9, 10, 11, 13, 14, 16, 17, 19, 32].elem c
def LyCc : List (Nat × Nat) := cRfL.map fun q => (q.1, (cShL.getD (q.1 - 512) (7, 0)).1)
set_option maxRecDepth 100000 in
theorem LyC.put {R : RW_} (h : LyC R) {a : Nat} {i : Int} {r : Option Nat} (hc : mayW (R.2.1 a).1 = true) : LyC (sR R a i r) := by sorry
set_option maxRecDepth 100000 in
theorem LyM.put {R : RW_} (h : LyM R) {a : Nat} {i : Int} {r : Option Nat} (hc : mayW (R.2.1 a).1 = true) : LyM (sR R a i r) := by sorry
set_option maxRecDepth 100000 in
theorem Ly.put {R : RW_} (h : Ly R) {a : Nat} {i : Int} {r : Option Nat} (hc : mayW (R.2.1 a).1 = true) : Ly (sR R a i r) := by sorry
set_option maxRecDepth 100000 in
theorem Ly.new {R : RW_} (h : Ly R) {c n : Nat} : Ly (nR R c n) := by sorry
section R15
variable {C : MC} {Z : ZZ} {pc pc' : Nat} {L : List (Nat × AV)} {st : List AV} {N : NW} {R : RW_} {kc ks : Nat}
set_option maxRecDepth 100000 in
theorem h_new {ci n idx a : Nat} {Cn : String} {T : u_T} {N' : NW} {R' : RW_} (hK : KC ci Cn T n) (hnd : ∀ k, k < n → Kty ci k ≠ .double) (q1 : Cond.classLink C.2.2.1 idx Cn ∈ lw_all) (q2 : Cond.instantiable Cn n ∈ lw_all) (q3 : Cond.initialized Cn ∈ lw_all) (hd : DI C.2.2.2.1 pc pc' (.new idx) 3) (ha : a = R.2.2) (hN : N' = nN N R) (hR : R' = nR R (ci + 8) n) (k : AW C Z pc' L (vr (some a) :: st) (N', R') kc ks) : AW C Z pc L st (N, R) (kc + 1) (ks + n) := by sorry
set_option maxRecDepth 100000 in
theorem h_newa {c a m : Nat} {n : Int} {atype : ArrayType} {N' : NW} {R' : RW_} (hq : Cond.arrayClass (newarray.typeOf atype) ∈ lw_all) (hc : newarray.typeOf atype = aTy c ∧ (c = 0 ∨ c = 1 ∨ c = 2 ∨ c = 3)) (hd : DI C.2.2.2.1 pc pc' (.newarray atype) 2) (h0 : 0 ≤ n ∧ n ≤ 60000000) (hm : m = n.toNat) (ha : a = R.2.2) (hN : N' = nN N R) (hR : R' = nR R c m) (k : AW C Z pc' L (vr (some a) :: st) (N', R') kc ks) : AW C Z pc L (vi n :: st) (N, R) (kc + 1) (ks + m) := by sorry
set_option maxRecDepth 100000 in
theorem cE_on {w : WC} {h : Hp} {a n c : Nat} (hc : c = 4 ∨ c = 5) (hs : hS h a = (c, n)) : cE w h a = .inl (w.2.2.1 c, n, .inr (.inr (.inr (.inr fun j => (hA h a j).map (ph w))))) := by sorry
set_option maxRecDepth 100000 in
theorem h_anew {c a m idx : Nat} {n : Int} {E : String} {N' : NW} {R' : RW_} (q1 : Cond.classLink C.2.2.1 idx E ∈ lw_all) (q2 : Cond.arrayOver (.object E) ∈ lw_tbl) (hc : (c = 4 ∧ E = "java/lang/Object") ∨ (c = 5 ∧ E = "java/util/HashMap$Node")) (hd : DI C.2.2.2.1 pc pc' (.anewarray idx) 3) (h0 : 0 ≤ n ∧ n ≤ 60000000) (hm : m = n.toNat) (ha : a = R.2.2) (hN : N' = nN N R) (hR : R' = nR R c m) (k : AW C Z pc' L (vr (some a) :: st) (N', R') kc ks) : AW C Z pc L (vi n :: st) (N, R) (kc + 1) (ks + m) := by sorry
set_option maxRecDepth 100000 in
theorem h_putr {a ci n k idx : Nat} {ty : FieldType} {r : Option Nat} (hF : FM C.2.2.1 idx ci n k ty) (hd : DI C.2.2.2.1 pc pc' (.putfield idx) 3) (ha : xK ≤ a) (hs : R.2.1 a = (ci + 8, n)) (ht : tR ty = true) {z : Int} (hz : (k : Int) = z) {R' : RW_} (hR : R' = sR R a z r) (kk : AW C Z pc' L st (N, R') kc ks) : AW C Z pc L (vr r :: vr (some a) :: st) (N, R) kc ks := by sorry
set_option maxRecDepth 100000 in
theorem h_putFr {a ci n k idx : Nat} {ty : FieldType} {r : Option Nat} (hF : FF C.2.2.1 idx ci n k ty) (hi : C.2.2.2.2.2.2 = "<init>") (hd : DI C.2.2.2.1 pc pc' (.putfield idx) 3) (ha : xK ≤ a) (hs : R.2.1 a = (ci + 8, n)) (ht : tR ty = true) {z : Int} (hz : (k : Int) = z) {R' : RW_} (hR : R' = sR R a z r) (kk : AW C Z pc' L st (N, R') kc ks) : AW C Z pc L (vr r :: vr (some a) :: st) (N, R) kc ks := by sorry
set_option maxRecDepth 100000 in
theorem h_putFi {a ci n k idx : Nat} {ty : FieldType} {x : Int} (hF : FF C.2.2.1 idx ci n k ty) (hi : C.2.2.2.2.2.2 = "<init>") (hd : DI C.2.2.2.1 pc pc' (.putfield idx) 3) (ha : xK ≤ a) (hs : R.2.1 a = (ci + 8, n)) (ht : tI ty = true) (hok : okN ty x) {z : Int} (hz : (k : Int) = z) {N' : NW} (hN : N' = up2 N a z x) (kk : AW C Z pc' L st (N', R) kc ks) : AW C Z pc L (vi x :: vr (some a) :: st) (N, R) kc ks := by sorry
set_option maxRecDepth 100000 in
theorem h_putr2 {a k idx : Nat} {ty : FieldType} {r : Option Nat} (h1 : FM C.2.2.1 idx 8 4 k ty) (h2 : FM C.2.2.1 idx 9 11 k ty) (hd : DI C.2.2.2.1 pc pc' (.putfield idx) 3) (ha : xK ≤ a) (hs : isNd R a) (ht : tR ty = true) {z : Int} (hz : (k : Int) = z) {R' : RW_} (hR : R' = sR R a z r) (kk : AW C Z pc' L st (N, R') kc ks) : AW C Z pc L (vr r :: vr (some a) :: st) (N, R) kc ks := by sorry
set_option maxRecDepth 100000 in
theorem h_aastN {a c n : Nat} {i : Int} {R' : RW_} (hd : DI C.2.2.2.1 pc pc' .aastore 1) (ha : xK ≤ a) (hc : c = 4 ∨ c = 5) (hs : R.2.1 a = (c, n)) (hb : 0 ≤ i ∧ i < n) (hR : R' = sR R a i none) (k : AW C Z pc' L st (N, R') kc ks) : AW C Z pc L (vr none :: vi i :: vr (some a) :: st) (N, R) kc ks := by sorry
set_option maxRecDepth 100000 in
theorem h_aastO {a c n v ci M : Nat} {i : Int} {Cv E : String} {T : u_T} {R' : RW_} (hd : DI C.2.2.2.1 pc pc' .aastore 1) (ha : xK ≤ a) (hc : (c = 4 ∧ E = "java/lang/Object") ∨ (c = 5 ∧ E = "java/util/HashMap$Node")) (hs : R.2.1 a = (c, n)) (hb : 0 ≤ i ∧ i < n) (hv : R.2.1 v = (ci + 8, M)) (hk : Kl[ci]? = some (Cv, T, M)) (hq : Cond.castable Cv E ∈ lw_tbl ∨ Cv = E) (hR : R' = sR R a i (some v)) (k : AW C Z pc' L st (N, R') kc ks) : AW C Z pc L (vr (some v) :: vi i :: vr (some a) :: st) (N, R) kc ks := by sorry
end R15
end

section
def FLs (own : String) (idx ci N k : Nat) (ty : FieldType) : Prop := ∃ (Cn : String) (T : u_T) (ref : String), KC ci Cn T N ∧ k < N ∧ Cond.fieldLink own idx ref (T k).2.1 (T k).2.2.1 ∈ lw_all ∧ Cond.sameField ref (T k).1 (T k).2.1 (T k).2.2.1 ∈ lw_all ∧ Kty ci k = ty
def FMs (own : String) (idx ci N k : Nat) (ty : FieldType) : Prop := ∃ (Cn : String) (T : u_T) (ref : String), KC ci Cn T N ∧ k < N ∧ Cond.fieldLink own idx ref (T k).2.1 (T k).2.2.1 ∈ lw_all ∧ Cond.sameField ref (T k).1 (T k).2.1 (T k).2.2.1 ∈ lw_all ∧ Kty ci k = ty ∧ (T k).2.2.2 = false
section R16
variable {C : MC} {Z : ZZ} {pc pc' : Nat} {L : List (Nat × AV)} {st : List AV} {h : Hp} {kc ks : Nat}
set_option maxRecDepth 100000 in
theorem a_getS {a ci N k idx : Nat} {ty : FieldType} (hF : FLs C.2.2.1 idx ci N k ty) (hd : decode C.2.2.2.1 pc = .ok (.getfield idx, 3)) (hs : hS h a = (ci + 8, N)) (hty : ty ≠ .double) (kk : AW C Z (pc + 3) L (fv ty (hN h a k) (hA h a k) :: st) h kc ks) : AW C Z pc L (vr (some a) :: st) h kc ks := by sorry
set_option maxRecDepth 100000 in
theorem a_putS {a ci N k idx : Nat} {ty : FieldType} {x : Int} {r : Option Nat} {h' : Hp} (hF : FMs C.2.2.1 idx ci N k ty) (hd : decode C.2.2.2.1 pc = .ok (.putfield idx, 3)) (ha : xK ≤ a) (hs : hS h a = (ci + 8, N)) (hty : ty ≠ .double) (hok : okN ty x)
    (hh : (hZ h' = hZ h ∧ hS h' = hS h) ∧ (∀ b, b ≠ a → ∀ j, hN h' b j = hN h b j) ∧ (∀ b, b ≠ a → ∀ j, hA h' b j = hA h b j) ∧ (fv ty (hN h' a k) (hA h' a k) = fv ty x r ∧ okN ty (hN h' a k)) ∧ ∀ j : Nat, j ≠ k → hN h' a j = hN h a j ∧ hA h' a j = hA h a j)
    (kk : AW C Z (pc + 3) L st h' kc ks) : AW C Z pc L (fv ty x r :: vr (some a) :: st) h kc ks := by sorry
end R16
section R17
variable {C : MC} {Z : ZZ} {pc pc' : Nat} {L : List (Nat × AV)} {st : List AV} {N : NW} {R : RW_} {kc ks : Nat}
set_option maxRecDepth 100000 in
theorem n_getSi {a ci n k idx : Nat} {ty : FieldType} (hF : FLs C.2.2.1 idx ci n k ty) (hd : DI C.2.2.2.1 pc pc' (.getfield idx) 3) (hs : R.2.1 a = (ci + 8, n)) (ht : tI ty = true) {z : Int} (hz : (k : Int) = z) (kk : AW C Z pc' L (vi (N a z) :: st) (N, R) kc ks) : AW C Z pc L (vr (some a) :: st) (N, R) kc ks := by sorry
set_option maxRecDepth 100000 in
theorem r_getSr {a ci n k idx : Nat} {ty : FieldType} {r : Option Nat} (hF : FLs C.2.2.1 idx ci n k ty) (hd : DI C.2.2.2.1 pc pc' (.getfield idx) 3) (hs : R.2.1 a = (ci + 8, n)) (ht : tR ty = true) {z : Int} (hz : (k : Int) = z) (hr : r = R.1 a z) (kk : AW C Z pc' L (vr r :: st) (N, R) kc ks) : AW C Z pc L (vr (some a) :: st) (N, R) kc ks := by sorry
set_option maxRecDepth 100000 in
theorem n_putS32 {a ci n k idx : Nat} {x : Int} (hF : FMs C.2.2.1 idx ci n k .int) (hd : DI C.2.2.2.1 pc pc' (.putfield idx) 3) (ha : xK ≤ a) (hs : R.2.1 a = (ci + 8, n)) {z : Int} (hz : (k : Int) = z) {N' : NW} (hN : N' = up2 N a z x) (kk : AW C Z pc' L st (N', R) kc ks) : AW C Z pc L (vi x :: vr (some a) :: st) (N, R) kc ks := by sorry
set_option maxRecDepth 100000 in
theorem h_putSr {a ci n k idx : Nat} {ty : FieldType} {r : Option Nat} (hF : FMs C.2.2.1 idx ci n k ty) (hd : DI C.2.2.2.1 pc pc' (.putfield idx) 3) (ha : xK ≤ a) (hs : R.2.1 a = (ci + 8, n)) (ht : tR ty = true) {z : Int} (hz : (k : Int) = z) {R' : RW_} (hR : R' = sR R a z r) (kk : AW C Z pc' L st (N, R') kc ks) : AW C Z pc L (vr r :: vr (some a) :: st) (N, R) kc ks := by sorry
end R17
end

section
set_option maxRecDepth 100000
set_option maxRecDepth 100000 in
theorem q1746 : (Jvm.Cond.instanceMethod ({ cls := "java/lang/Object", name := "getClass", desc := "()Ljava/lang/Class;" } : Jvm.MethodName)) ∈ lw_all := by sorry
set_option maxRecDepth 100000 in
theorem q1775 : (Jvm.Cond.native ({ cls := "java/lang/Object", name := "getClass", desc := "()Ljava/lang/Class;" } : Jvm.MethodName)) ∈ lw_all := by sorry
set_option maxRecDepth 100000 in
theorem q4423 : (Jvm.Cond.castable "java/util/BitSet" "java/lang/Object") ∈ lw_tbl := by sorry
set_option maxRecDepth 100000 in
theorem q4434 : (Jvm.Cond.castable "java/lang/String" "java/lang/Object") ∈ lw_tbl := by sorry
set_option maxRecDepth 100000 in
theorem q4437 : (Jvm.Cond.castable "java/lang/Integer" "java/lang/Object") ∈ lw_tbl := by sorry
set_option maxRecDepth 100000 in
theorem q4441 : (Jvm.Cond.castable "java/util/HashMap$TreeNode" "java/util/HashMap$Node") ∈ lw_tbl := by sorry
set_option maxRecDepth 100000 in
theorem q4444 : (Jvm.Cond.declares ({ cls := "java/lang/Object", name := "getClass", desc := "()Ljava/lang/Class;" } : Jvm.MethodName)) ∈ lw_tbl := by sorry
section R18
variable {C : MC} {Z : ZZ} {Q : Option AV → Hp → Prop} {pc pc' : Nat} {L : List (Nat × AV)} {st : List AV} {h : Hp} {N : NW} {R : RW_} {kc ks : Nat}
set_option maxRecDepth 100000 in
theorem a_nret {x : Int} {ty : FieldType} (hd : decode C.2.2.2.1 pc = .ok (.ireturn, 1)) (hr : C.2.2.2.2.2.1 = some ty) (hx : narrow ty (.int (Int32.ofInt x)) = .int (Int32.ofInt x)) (hQ : Q (some (vi x)) h) : AW C (zR C.1 Q) pc L [vi x] h kc ks := by sorry
set_option maxRecDepth 100000 in
theorem b_bret {x : Int} (hd : DI C.2.2.2.1 pc pc' .ireturn 1) (hr : C.2.2.2.2.2.1 = some .byte) (hx : -128 ≤ x ∧ x < 128) (hQ : Q (some (vi x)) h) : AW C (zR C.1 Q) pc L [vi x] h kc ks := by sorry
set_option maxRecDepth 100000 in
theorem b_cret {x : Int} (hd : DI C.2.2.2.1 pc pc' .ireturn 1) (hr : C.2.2.2.2.2.1 = some .char) (hx : 0 ≤ x ∧ x < 65536) (hQ : Q (some (vi x)) h) : AW C (zR C.1 Q) pc L [vi x] h kc ks := by sorry
set_option maxRecDepth 100000 in
theorem lk_h {a o d x : Int} {r : List (Int × Int)} (h : x = a) : Op.lookupswitch.offset ((a, o) :: r) d x = o := by sorry
set_option maxRecDepth 100000 in
theorem lk_t {a o d x t : Int} {r : List (Int × Int)} (h : ¬ x = a) (e : Op.lookupswitch.offset r d x = t) : Op.lookupswitch.offset ((a, o) :: r) d x = t := by sorry
set_option maxRecDepth 100000 in
theorem b_look {dflt off : Int} {ps : Array (Int × Int)} {len : Nat} {x : Int} (tgt : Nat) (hd : DI C.2.2.2.1 pc pc' (.lookupswitch dflt ps) len) (hp : (ps.toList.zip (ps.toList.drop 1)).all (fun (a, next) => a.1 < next.1) = true) (ho : Op.lookupswitch.offset ps.toList dflt x = off) (ht : (pc : Int) + off = (tgt : Int)) (k : AW C Z tgt L st h kc ks) : AW C Z pc L (vi x :: st) h kc ks := by sorry
set_option maxRecDepth 100000 in
theorem b_getC {a ci n idx mi : Nat} {Cn : String} {T : u_T} (q1 : Cond.methodLink C.2.2.1 idx ⟨"java/lang/Object", "getClass", "()Ljava/lang/Class;"⟩ ∈ lw_all) (q2 : Cond.selects Cn ⟨"java/lang/Object", "getClass", "()Ljava/lang/Class;"⟩ ⟨"java/lang/Object", "getClass", "()Ljava/lang/Class;"⟩ ∈ lw_all) (hm : (Cn, mi) ∈ mL_) (hd : DI C.2.2.2.1 pc pc' (.invokevirtual idx) 3) (hs : hS h a = (ci + 8, n)) (hk : Kl[ci]? = some (Cn, T, n)) (hD : 1 ≤ C.2.1) (hst : (st.map ct).sum ≤ 8)
    (k : AW C Z pc' L (vr (some mi) :: st) h kc ks) : AW C Z pc L (vr (some a) :: st) h kc ks := by sorry
def stOk (R : RW_) (c : Nat) (r : Option Nat) : Bool := match r with
  | none => true
  | some v => (c == 4 && (R.2.1 v == (13, 4) || R.2.1 v == (15, 1) || R.2.1 v == (12, 3))) || (c == 5 && (R.2.1 v == (16, 4) || R.2.1 v == (17, 11)))
set_option maxRecDepth 100000 in
theorem stOk_ex {R : RW_} {c v : Nat} (h : stOk R c (some v) = true) : ∃ (ci M : Nat) (Cv E : String) (T : u_T), ((c = 4 ∧ E = "java/lang/Object") ∨ (c = 5 ∧ E = "java/util/HashMap$Node")) ∧ R.2.1 v = (ci + 8, M) ∧ Kl[ci]? = some (Cv, T, M) ∧ (Cond.castable Cv E ∈ lw_tbl ∨ Cv = E) := by sorry
set_option maxRecDepth 100000 in
theorem h_aast {a c n : Nat} {i : Int} {r : Option Nat} {R' : RW_} (hd : DI C.2.2.2.1 pc pc' .aastore 1) (ha : xK ≤ a) (hc : c = 4 ∨ c = 5) (hs : R.2.1 a = (c, n)) (hb : 0 ≤ i ∧ i < n) (hq : stOk R c r = true) (hR : R' = sR R a i r) (k : AW C Z pc' L st (N, R') kc ks) : AW C Z pc L (vr r :: vi i :: vr (some a) :: st) (N, R) kc ks := by sorry
set_option maxRecDepth 100000 in
theorem h_aast4 {a n : Nat} {i : Int} {r : Option Nat} {R' : RW_} (hd : DI C.2.2.2.1 pc pc' .aastore 1) (ha : xK ≤ a) (hs : R.2.1 a = (4, n)) (hb : 0 ≤ i ∧ i < n) (hq : stOk R 4 r = true) (hR : R' = sR R a i r) (k : AW C Z pc' L st (N, R') kc ks) : AW C Z pc L (vr r :: vi i :: vr (some a) :: st) (N, R) kc ks := by sorry
set_option maxRecDepth 100000 in
theorem h_aast5 {a n : Nat} {i : Int} {r : Option Nat} {R' : RW_} (hd : DI C.2.2.2.1 pc pc' .aastore 1) (ha : xK ≤ a) (hs : R.2.1 a = (5, n)) (hb : 0 ≤ i ∧ i < n) (hq : stOk R 5 r = true) (hR : R' = sR R a i r) (k : AW C Z pc' L st (N, R') kc ks) : AW C Z pc L (vr r :: vi i :: vr (some a) :: st) (N, R) kc ks := by sorry
set_option maxRecDepth 100000 in
theorem h_instT {a idx : Nat} {x : Int} (hq : Cond.classLink C.2.2.1 idx "java/util/HashMap$TreeNode" ∈ lw_all) (hd : DI C.2.2.2.1 pc pc' (.instanceof idx) 3) (hs : isNd R a) (hx : x = if (R.2.1 a).1 = 17 then (1 : Int) else 0) (k : AW C Z pc' L (vi x :: st) (N, R) kc ks) : AW C Z pc L (vr (some a) :: st) (N, R) kc ks := by sorry
set_option maxRecDepth 100000 in
theorem h_castT {r : Option Nat} {idx : Nat} (hq : Cond.classLink C.2.2.1 idx "java/util/HashMap$TreeNode" ∈ lw_all) (hd : DI C.2.2.2.1 pc pc' (.checkcast idx) 3) (hs : rIs R 17 11 r = true) (k : AW C Z pc' L (vr r :: st) (N, R) kc ks) : AW C Z pc L (vr r :: st) (N, R) kc ks := by sorry
set_option maxRecDepth 100000 in
theorem h_putFr2 {a k idx : Nat} {ty : FieldType} {r : Option Nat} (h1 : FF C.2.2.1 idx 8 4 k ty) (h2 : FF C.2.2.1 idx 9 11 k ty) (hi : C.2.2.2.2.2.2 = "<init>") (hd : DI C.2.2.2.1 pc pc' (.putfield idx) 3) (ha : xK ≤ a) (hs : isNd R a) (ht : tR ty = true) {z : Int} (hz : (k : Int) = z) {R' : RW_} (hR : R' = sR R a z r) (kk : AW C Z pc' L st (N, R') kc ks) : AW C Z pc L (vr r :: vr (some a) :: st) (N, R) kc ks := by sorry
set_option maxRecDepth 100000 in
theorem h_putFi2 {a k idx : Nat} {ty : FieldType} {x : Int} (h1 : FF C.2.2.1 idx 8 4 k ty) (h2 : FF C.2.2.1 idx 9 11 k ty) (hi : C.2.2.2.2.2.2 = "<init>") (hd : DI C.2.2.2.1 pc pc' (.putfield idx) 3) (ha : xK ≤ a) (hs : isNd R a) (ht : tI ty = true) (hok : okN ty x) {z : Int} (hz : (k : Int) = z) {N' : NW} (hN : N' = up2 N a z x) (kk : AW C Z pc' L st (N', R) kc ks) : AW C Z pc L (vi x :: vr (some a) :: st) (N, R) kc ks := by sorry
end R18
end

section
set_option maxRecDepth 100000
set_option maxRecDepth 100000 in
theorem q1491 : (Jvm.Cond.sameMethod "[B" "java/lang/Object" "clone" "()Ljava/lang/Object;") ∈ lw_all := by sorry
set_option maxRecDepth 100000 in
theorem q1492 : (Jvm.Cond.native ({ cls := "java/lang/Object", name := "clone", desc := "()Ljava/lang/Object;" } : Jvm.MethodName)) ∈ lw_all := by sorry
set_option maxRecDepth 100000 in
theorem q1493 : (Jvm.Cond.instanceMethod ({ cls := "java/lang/Object", name := "clone", desc := "()Ljava/lang/Object;" } : Jvm.MethodName)) ∈ lw_all := by sorry
set_option maxRecDepth 100000 in
theorem q1494 : (Jvm.Cond.selects "[B" ({ cls := "[B", name := "clone", desc := "()Ljava/lang/Object;" } : Jvm.MethodName) ({ cls := "java/lang/Object", name := "clone", desc := "()Ljava/lang/Object;" } : Jvm.MethodName)) ∈ lw_all := by sorry
set_option maxRecDepth 100000 in
theorem q1495 : (Jvm.Cond.castable "[B" "java/lang/Cloneable") ∈ lw_tbl := by sorry
set_option maxRecDepth 100000 in
theorem Rp.newX {w : WC} {h h' : Hp} {H H' : Heap} {c n : Nat} (hR : Rp w h H) (z1 : hZ h' = hZ h + 1) (s1 : hS h' (hZ h) = (c, n)) (s2 : ∀ k, k ≠ hZ h → hS h' k = hS h k) (n2 : ∀ k, k ≠ hZ h → hN h' k = hN h k) (a2 : ∀ k, k ≠ hZ h → hA h' k = hA h k) (ok : ∀ j : Nat, j < n → okN (sTy c j) (hN h' (hZ h) j))
    (he : va_at w.2.1 Kl (ph w (hZ h), cE w h' (hZ h)) H') (hsz : H'.size = H.size + 1) (oq : ∀ q : Nat, q < H.size → H'[q]? = H[q]?) : Rp w h' H' := by sorry
section WCL
variable {p : Program} {l : Launch} {e : Env} {R : Room} {s : State} {m : MethodId} {args : Array Value} {below : List Frame} {meth : Method} {c : Code} {H : Heap} {locs : List Loc} {cells slots : Nat} {Q : State → Prop}
variable {cc : ByteArray} {pc : Nat} {ls : Array Slot} {rest : List Value} {a : Nat}
set_option maxRecDepth 100000 in
theorem W.cloneB (hexec : p.tables.exec = Jvm.exec) (hb : c.code = cc) (hml : c.maxLocals = ls.size) {own : String} {index : Nat} (hown : s.vm.findClass own = some m.cls)
    (hlink : (Cond.methodLink own index ⟨"[B", "clone", "()Ljava/lang/Object;"⟩).before args s = true) (hsame : (Cond.sameMethod "[B" "java/lang/Object" "clone" "()Ljava/lang/Object;").before args s = true)
    (hnat : (Cond.native ⟨"java/lang/Object", "clone", "()Ljava/lang/Object;"⟩).before args s = true) (hinst : (Cond.instanceMethod ⟨"java/lang/Object", "clone", "()Ljava/lang/Object;"⟩).before args s = true)
    (hsel : (Cond.selects "[B" ⟨"[B", "clone", "()Ljava/lang/Object;"⟩ ⟨"java/lang/Object", "clone", "()Ljava/lang/Object;"⟩).before args s = true) (hcl : va_Nw (.castable "[B" "java/lang/Cloneable") s)
    {cA : ClassId} {n : Nat} {f : Nat → Int32} (ha : H[a]? = some (arrV cA n (fun j => .int (f j)))) (hAr : ArrOfT s cA .byte) (hnm : s.vm.findClass "[B" = some cA) (hfit : ∀ i, i < n → fits .byte (.int (f i)) = true)
    (hframes : 1 ≤ R.frames) (hlocals : (rest.map fun v => v.category).sum + 14 ≤ R.locals) (hcells : cells + 1 ≤ R.cells) (hslots : slots + n ≤ R.slots) (hdg : decode cc pc = .ok (.invokevirtual index, 3))
    (kk : W p l e R s m args below meth c (H.push (arrV cA n (fun j => .int (f j)))) locs (cells + 1) (slots + n) Q (F0 m (pc + 3) ls (.ref H.size :: rest))) : W p l e R s m args below meth c H locs cells slots Q (F0 m pc ls (.ref a :: rest)) := by sorry
set_option maxRecDepth 100000 in
theorem W.acopyR (hexec : p.tables.exec = Jvm.exec) (hb : c.code = cc) (hml : c.maxLocals = ls.size) {own : String} {index : Nat} (hown : s.vm.findClass own = some m.cls) (hlink : (Cond.methodLink own index arraycopyName).before args s = true) (hnat : (Cond.native arraycopyName).before args s = true) (hstat : (Cond.static arraycopyName).before args s = true) (hini : (Cond.initialized "java/lang/System").before args s = true)
    {a0 : Nat} {c0 : ClassId} {n0 n1 : Nat} {f g : Nat → Option Nat} {E1 : String} (hc0 : H[a0]? = some (arrV c0 n0 (fun j => va_rf (f j)))) (hc1 : H[a]? = some (arrV c0 n1 (fun j => va_rf (g j)))) (hA0 : ArrOfT s c0 (.object E1)) (hRA : va_RA s c0 (.object E1))
    {sp dp n : Int32} (h1 : ¬ sp < 0) (h2 : ¬ dp < 0) (h3 : ¬ n < 0) (h4 : sp.toNatClampNeg + n.toNatClampNeg ≤ n0) (h5 : dp.toNatClampNeg + n.toNatClampNeg ≤ n1)
    (hel : ∀ i : Nat, i < n.toNatClampNeg → ∀ y : Nat, f (sp.toNatClampNeg + i) = some y → ∃ (cellV : Cell) (C : String), H[y]? = some cellV ∧ cellV.vm.isStatics = false ∧ s.vm.findClass C = some cellV.cls ∧ ∀ comp : ClassId, s.vm.findClass E1 = some comp → s.vm.assignable cellV.cls comp = true)
    (hframes : 1 ≤ R.frames) (hlocals : (rest.map fun v => v.category).sum + (nativeFrameWords "java/lang/System" "arraycopy" 5 + 11) ≤ R.locals) (hdg : decode cc pc = .ok (.invokestatic index, 3))
    (kk : ∀ (H1 : Heap) (locs1 : List Loc), H1[a]? = some (arrV c0 n1 (fun j => va_rf (va_cpy f g sp.toNatClampNeg dp.toNatClampNeg n.toNatClampNeg j))) → H1.size = H.size → (∀ q : Nat, q ≠ a → H1[q]? = H[q]?) → (∀ q ∈ locs1, q ∈ locs ∨ q.base = a) → W p l e R s m args below meth c H1 locs1 cells slots Q (F0 m (pc + 3) ls rest)) : W p l e R s m args below meth c H locs cells slots Q (F0 m pc ls (.int n :: .int dp :: .ref a :: .int sp :: .ref a0 :: rest)) := by sorry
end WCL
set_option maxRecDepth 100000 in
theorem stOk4 {R : RW_} {v : Nat} (h : stOk R 4 (some v) = true) : ∃ (ci M : Nat) (Cv : String) (T : u_T), R.2.1 v = (ci + 8, M) ∧ Kl[ci]? = some (Cv, T, M) ∧ Cond.castable Cv "java/lang/Object" ∈ lw_tbl := by sorry
def cpR (R : RW_) (a0 a : Nat) (sp dp n : Int) : RW_ := (fun b j => if b = a ∧ dp ≤ j ∧ j < dp + n then R.1 a0 (sp + (j - dp)) else R.1 b j, R.2)
def clN (N : NW) (R : RW_) (a : Nat) : NW := fun b j => if b = R.2.2 then N a j else N b j
set_option maxRecDepth 100000 in
theorem LyC.cpy {R : RW_} (h : LyC R) {a0 a : Nat} {sp dp n : Int} (hc : mayW (R.2.1 a).1 = true) : LyC (cpR R a0 a sp dp n) := by sorry
set_option maxRecDepth 100000 in
theorem Ly.cpy {R : RW_} (h : Ly R) {a0 a : Nat} {sp dp n : Int} (hc : mayW (R.2.1 a).1 = true) : Ly (cpR R a0 a sp dp n) := by sorry
set_option maxRecDepth 100000 in
theorem Ly.putB {R : RW_} (h : Ly R) {a : Nat} {i : Int} {r : Option Nat} (ha : 643 < a) : Ly (sR R a i r) := by sorry
section R19
variable {C : MC} {Z : ZZ} {pc pc' : Nat} {L : List (Nat × AV)} {st : List AV} {N : NW} {R : RW_} {kc ks : Nat}
set_option maxRecDepth 100000 in
theorem b_acopyR {a0 a n0 n1 idx : Nat} {sp dp n : Int} (hM : MA C.2.2.1 idx) (hd : DI C.2.2.2.1 pc pc' (.invokestatic idx) 3) (ha : xK ≤ a) (hs0 : R.2.1 a0 = (4, n0)) (hs : R.2.1 a = (4, n1)) (hD : 1 ≤ C.2.1) (hst : (st.map ct).sum ≤ 8) (hb : 0 ≤ sp ∧ 0 ≤ dp ∧ 0 ≤ n ∧ sp + n ≤ n0 ∧ dp + n ≤ n1) (hel : ∀ i : Nat, i < n.toNat → stOk R 4 (R.1 a0 (sp + i)) = true)
    {R' : RW_} (hR' : R' = cpR R a0 a sp dp n) (k : AW C Z pc' L st (N, R') kc ks) : AW C Z pc L (vi n :: vi dp :: vr (some a) :: vi sp :: vr (some a0) :: st) (N, R) kc ks := by sorry
set_option maxRecDepth 100000 in
theorem b_cloneB {a n idx b : Nat} {N' : NW} {R' : RW_} (q1 : Cond.methodLink C.2.2.1 idx ⟨"[B", "clone", "()Ljava/lang/Object;"⟩ ∈ lw_all) (hd : DI C.2.2.2.1 pc pc' (.invokevirtual idx) 3) (hs : R.2.1 a = (1, n)) (hD : 1 ≤ C.2.1) (hst : (st.map ct).sum ≤ 8) (hb : b = R.2.2) (hN : N' = clN N R a) (hR' : R' = nR R 1 n)
    (k : AW C Z pc' L (vr (some b) :: st) (N', R') kc ks) : AW C Z pc L (vr (some a) :: st) (N, R) (kc + 1) (ks + n) := by sorry
end R19
end

section
set_option maxRecDepth 100000
set_option maxRecDepth 100000 in
theorem q4443 : (Jvm.Cond.selects "[Ljava/lang/Object;" ({ cls := "java/lang/Object", name := "getClass", desc := "()Ljava/lang/Class;" } : Jvm.MethodName) ({ cls := "java/lang/Object", name := "getClass", desc := "()Ljava/lang/Class;" } : Jvm.MethodName)) ∈ lw_all := by sorry
def aNm (c : Nat) : String := match c with
  | 0 => "[I"
  | 1 => "[B"
  | 2 => "[J"
  | 4 => "[Ljava/lang/Object;"
  | 5 => "[Ljava/util/HashMap$Node;"
  | _ => ""
set_option maxRecDepth 100000 in
theorem recA {w : WC} {h : Hp} {H : Heap} {s : State} (hR : Rp w h H) (hK : Kx w s) {a c n : Nat} (hs : hS h a = (c, n)) (hc : c = 0 ∨ c = 1 ∨ c = 2 ∨ c = 4 ∨ c = 5) : ∃ cell : Cell, H[ph w a]? = some cell ∧ cell.vm.isStatics = false ∧ s.vm.findClass (aNm c) = some cell.cls := by sorry
section R20
variable {C : MC} {Z : ZZ} {pc pc' : Nat} {L : List (Nat × AV)} {st : List AV} {N : NW} {R : RW_} {kc ks : Nat}
set_option maxRecDepth 100000 in
theorem b_castA {a c n idx : Nat} {nm : String} (hq : Cond.classLink C.2.2.1 idx nm ∈ lw_all) (hd : DI C.2.2.2.1 pc pc' (.checkcast idx) 3) (hs : R.2.1 a = (c, n)) (hc : c = 0 ∨ c = 1 ∨ c = 2 ∨ c = 4 ∨ c = 5) (hn : nm = aNm c) (k : AW C Z pc' L (vr (some a) :: st) (N, R) kc ks) : AW C Z pc L (vr (some a) :: st) (N, R) kc ks := by sorry
set_option maxRecDepth 100000 in
theorem b_getCA {a n idx : Nat} (q1 : Cond.methodLink C.2.2.1 idx ⟨"java/lang/Object", "getClass", "()Ljava/lang/Class;"⟩ ∈ lw_all) (hd : DI C.2.2.2.1 pc pc' (.invokevirtual idx) 3) (hs : R.2.1 a = (4, n)) (hD : 1 ≤ C.2.1) (hst : (st.map ct).sum ≤ 8)
    (k : AW C Z pc' L (vr (some 31) :: st) (N, R) kc ks) : AW C Z pc L (vr (some a) :: st) (N, R) kc ks := by sorry
end R20
set_option maxRecDepth 100000 in
theorem isNd.may {R : RW_} {a : Nat} (h : isNd R a) : mayW (R.2.1 a).1 = true := by sorry
end

section
set_option maxRecDepth 100000
def MVp (own : String) (idx : Nat) (Cn : String) (x y : MethodName) (b : ByteArray) (nL : Nat) (ret : Option FieldType) (n : Nat) : Prop := (Cond.code y b nL ret ∈ lw_all ∧ Cond.methodLink own idx x ∈ lw_all ∧ Cond.sameMethod x.cls x.cls x.name x.desc ∈ lw_all ∧ (Cond.instanceMethod x ∈ lw_all ∧ ∃ (b1 : ByteArray) (n1 : Nat) (r1 : Option FieldType), Cond.code x b1 n1 r1 ∈ lw_all) ∧ Cond.selects Cn x y ∈ lw_all ∧ Cond.instanceMethod y ∈ lw_all ∧ Cond.initialized y.cls ∈ lw_all) ∧ notMH x n ∧ nL ≤ 45
section R21
variable {w : WC} {d : Nat} {own : String} {b0 : ByteArray} {nL0 : Nat} {ret0 : Option FieldType} {nm0 : String} {Z : ZZ} {pc pc' : Nat} {L : List (Nat × AV)} {st : List AV} {h : Hp} {kc ks mc ms : Nat} {y : MethodName} {b : ByteArray} {nL : Nat} {ret : Option FieldType} {Q : Option AV → Hp → Prop} {idx n : Nat}
set_option maxRecDepth 100000 in
theorem b_callVp {a ci N : Nat} {as : List AV} {T : u_T} {Cn : String} {x : MethodName} (hM : MVp own idx Cn x y b nL ret n) (hc : CT w d y b nL ret (vr (some a) :: as) h mc ms Q) (hd : DI b0 pc pc' (.invokevirtual idx) 3) (hs : hS h a = (ci + 8, N)) (hK : Kl[ci]? = some (Cn, T, N)) (hn : as.length = n) (hst : (st.map ct).sum ≤ 8)
    (k : ∀ r h', Q r h' → AW (w, d + 1, own, b0, nL0, ret0, nm0) Z pc' L (r.toList ++ st) h' kc ks) : AW (w, d + 1, own, b0, nL0, ret0, nm0) Z pc L (as.reverse ++ vr (some a) :: st) h (kc + mc) (ks + ms) := by sorry
end R21
end

section
def bz (x : Int) : Int := if x = 0 then 0 else 1
set_option maxRecDepth 100000 in
theorem bz_r (x : Int) : 0 ≤ bz x ∧ bz x < 2 := by sorry
set_option maxRecDepth 100000 in
theorem bz_id {x : Int} (h : 0 ≤ x ∧ x < 2) : bz x = x := by sorry
set_option maxRecDepth 100000 in
theorem n_getz {C : MC} {Z : ZZ} {pc pc' : Nat} {L : List (Nat × AV)} {st : List AV} {N : NW} {R : RW_} {kc ks : Nat} {a ci n k idx : Nat} {ty : FieldType} (hF : FL C.2.2.1 idx ci n k ty) (hd : DI C.2.2.2.1 pc pc' (.getfield idx) 3) (hs : R.2.1 a = (ci + 8, n)) (ht : ty = .boolean) {z : Int} (hz : (k : Int) = z) (kk : AW C Z pc' L (vi (bz (N a z)) :: st) (N, R) kc ks) : AW C Z pc L (vr (some a) :: st) (N, R) kc ks := by sorry
end

section
set_option maxRecDepth 100000 in
theorem un_rowL (p : Program) : NativeRow.find? p.tables.natives "jdk/internal/misc/Unsafe" "getLong" "(Ljava/lang/Object;J)J" = some (Native.jdk_internal_misc_Unsafe.memory.getRow "Long" "J" .long "" .plain) := by sorry
set_option maxRecDepth 100000 in
theorem un_rowI (p : Program) : NativeRow.find? p.tables.natives "jdk/internal/misc/Unsafe" "getInt" "(Ljava/lang/Object;J)I" = some (Native.jdk_internal_misc_Unsafe.memory.getRow "Int" "I" .int "" .plain) := by sorry
set_option maxRecDepth 100000
set_option maxRecDepth 100000 in
theorem q294 : (Jvm.Cond.initialized "jdk/internal/misc/Unsafe") ∈ lw_all := by sorry
set_option maxRecDepth 100000 in
theorem q1828 : (Jvm.Cond.instanceMethod ({ cls := "jdk/internal/misc/Unsafe", name := "getLongUnaligned", desc := "(Ljava/lang/Object;J)J" } : Jvm.MethodName)) ∈ lw_all := by sorry
set_option maxRecDepth 100000 in
theorem q1829 : (Jvm.Cond.selects "jdk/internal/misc/Unsafe" ({ cls := "jdk/internal/misc/Unsafe", name := "getLongUnaligned", desc := "(Ljava/lang/Object;J)J" } : Jvm.MethodName) ({ cls := "jdk/internal/misc/Unsafe", name := "getLongUnaligned", desc := "(Ljava/lang/Object;J)J" } : Jvm.MethodName)) ∈ lw_all := by sorry
set_option maxRecDepth 100000 in
theorem q1830 : (Jvm.Cond.code ({ cls := "jdk/internal/misc/Unsafe", name := "getLongUnaligned", desc := "(Ljava/lang/Object;J)J" } : Jvm.MethodName) prog_64_method_334_code (4 : Nat) (Option.some Jvm.ClassFile.FieldType.long)) ∈ lw_all := by sorry
set_option maxRecDepth 100000 in
theorem q1831 : (Jvm.Cond.constantLong "jdk/internal/misc/Unsafe" (696 : Nat) (7 : Int64)) ∈ lw_all := by sorry
set_option maxRecDepth 100000 in
theorem q1832 : (Jvm.Cond.methodLink "jdk/internal/misc/Unsafe" (27 : Nat) ({ cls := "jdk/internal/misc/Unsafe", name := "getLong", desc := "(Ljava/lang/Object;J)J" } : Jvm.MethodName)) ∈ lw_all := by sorry
set_option maxRecDepth 100000 in
theorem q1833 : (Jvm.Cond.instanceMethod ({ cls := "jdk/internal/misc/Unsafe", name := "getLong", desc := "(Ljava/lang/Object;J)J" } : Jvm.MethodName)) ∈ lw_all := by sorry
set_option maxRecDepth 100000 in
theorem q1834 : (Jvm.Cond.selects "jdk/internal/misc/Unsafe" ({ cls := "jdk/internal/misc/Unsafe", name := "getLong", desc := "(Ljava/lang/Object;J)J" } : Jvm.MethodName) ({ cls := "jdk/internal/misc/Unsafe", name := "getLong", desc := "(Ljava/lang/Object;J)J" } : Jvm.MethodName)) ∈ lw_all := by sorry
set_option maxRecDepth 100000 in
theorem q1835 : (Jvm.Cond.native ({ cls := "jdk/internal/misc/Unsafe", name := "getLong", desc := "(Ljava/lang/Object;J)J" } : Jvm.MethodName)) ∈ lw_all := by sorry
set_option maxRecDepth 100000 in
theorem q1836 : (Jvm.Cond.constantLong "jdk/internal/misc/Unsafe" (349 : Nat) (3 : Int64)) ∈ lw_all := by sorry
set_option maxRecDepth 100000 in
theorem q1837 : (Jvm.Cond.methodLink "jdk/internal/misc/Unsafe" (17 : Nat) ({ cls := "jdk/internal/misc/Unsafe", name := "getInt", desc := "(Ljava/lang/Object;J)I" } : Jvm.MethodName)) ∈ lw_all := by sorry
set_option maxRecDepth 100000 in
theorem q1838 : (Jvm.Cond.instanceMethod ({ cls := "jdk/internal/misc/Unsafe", name := "getInt", desc := "(Ljava/lang/Object;J)I" } : Jvm.MethodName)) ∈ lw_all := by sorry
set_option maxRecDepth 100000 in
theorem q1839 : (Jvm.Cond.selects "jdk/internal/misc/Unsafe" ({ cls := "jdk/internal/misc/Unsafe", name := "getInt", desc := "(Ljava/lang/Object;J)I" } : Jvm.MethodName) ({ cls := "jdk/internal/misc/Unsafe", name := "getInt", desc := "(Ljava/lang/Object;J)I" } : Jvm.MethodName)) ∈ lw_all := by sorry
set_option maxRecDepth 100000 in
theorem q1840 : (Jvm.Cond.native ({ cls := "jdk/internal/misc/Unsafe", name := "getInt", desc := "(Ljava/lang/Object;J)I" } : Jvm.MethodName)) ∈ lw_all := by sorry
set_option maxRecDepth 100000 in
theorem q1899 : (Jvm.Cond.instanceMethod ({ cls := "jdk/internal/misc/Unsafe", name := "getIntUnaligned", desc := "(Ljava/lang/Object;J)I" } : Jvm.MethodName)) ∈ lw_all := by sorry
set_option maxRecDepth 100000 in
theorem q1900 : (Jvm.Cond.selects "jdk/internal/misc/Unsafe" ({ cls := "jdk/internal/misc/Unsafe", name := "getIntUnaligned", desc := "(Ljava/lang/Object;J)I" } : Jvm.MethodName) ({ cls := "jdk/internal/misc/Unsafe", name := "getIntUnaligned", desc := "(Ljava/lang/Object;J)I" } : Jvm.MethodName)) ∈ lw_all := by sorry
set_option maxRecDepth 100000 in
theorem q1901 : (Jvm.Cond.code ({ cls := "jdk/internal/misc/Unsafe", name := "getIntUnaligned", desc := "(Ljava/lang/Object;J)I" } : Jvm.MethodName) prog_64_method_336_code (4 : Nat) (Option.some Jvm.ClassFile.FieldType.int)) ∈ lw_all := by sorry
set_option maxRecDepth 100000 in
theorem q1827 : (Jvm.Cond.methodLink "jdk/internal/util/ArraysSupport" (30 : Nat) ({ cls := "jdk/internal/misc/Unsafe", name := "getLongUnaligned", desc := "(Ljava/lang/Object;J)J" } : Jvm.MethodName)) ∈ lw_all := by sorry
set_option maxRecDepth 100000 in
theorem q1898 : (Jvm.Cond.methodLink "jdk/internal/util/ArraysSupport" (54 : Nat) ({ cls := "jdk/internal/misc/Unsafe", name := "getIntUnaligned", desc := "(Ljava/lang/Object;J)I" } : Jvm.MethodName)) ∈ lw_all := by sorry
set_option maxRecDepth 100000 in
theorem Kx.u22 {w : WC} {s : State} {h : Hp} {H : Heap} (hK : Kx w s) (hR : Rp w h H) : ∃ cell : Cell, H[ph w 22]? = some cell ∧ cell.vm.isStatics = false ∧ s.vm.findClass RJ22 = some cell.cls := by sorry
set_option maxRecDepth 100000 in
theorem Rp.byt {w : WC} {h : Hp} {H : Heap} (hR : Rp w h H) {s : State} (hK : Kx w s) {a n : Nat} (hs : hS h a = (1, n)) :
    ∃ A : Cell, H[ph w a]? = some A ∧ A.vm = .none ∧ (∃ (k : Class) (comp : ClassId), s.vm.classes[A.cls]? = some k ∧ k.kind = .array comp .byte) ∧ ∀ j : Nat, j < n → A.slots[j]? = some (.int (Int32.ofInt (hN h a j))) := by sorry
def unB (x : Int32) : Nat := x.toUInt32.toNat % 256
set_option maxRecDepth 100000 in
theorem unB_of (z : Int) : unB (Int32.ofInt z) = (z % 256).toNat := by sorry
section UNW
variable {E : CtlPost} {e : Env} {d : Bool} {acts : List Action} {s : State}
set_option maxRecDepth 100000 in
theorem un_loc {want : FieldType} {a : Addr} {A : Cell} {k : Class} {comp : ClassId} {p : Nat} {off : Int64} {Q : UnsafeMem.Target → Jvm.Pre}
    (hA : s.heap[a]? = some A) (hvm : A.vm = .none) (hk : s.vm.classes[A.cls]? = some k) (hkind : k.kind = .array comp .byte) (hneg : ¬ off < 0) (hoff : off.toNatClampNeg = 16 + p)
    (hw : want = .long ∨ want = .int) : wp (UnsafeMem.locate (.ref a) off want) Q E e d acts s ↔ Q (UnsafeMem.Target.bytes a .byte p) d acts s := by sorry
set_option maxRecDepth 100000 in
theorem un_rb {a : Addr} {A : Cell} {i : Nat} {x : Int32} {Q : Nat → Jvm.Pre} (hA : s.heap[a]? = some A) (hvm : A.vm = .none) (h : A.slots[i]? = some (.int x)) :
    wp (UnsafeMem.readByte a .byte i .plain) Q E e d acts s ↔ Q (unB x) d (readActs ⟨a, i⟩ .plain (.int x) acts) s := by sorry
end UNW
def gl8 (f : Nat → Int) : Int := w64 (f 0 % 256 + f 1 % 256 * 256 + f 2 % 256 * 65536 + f 3 % 256 * 16777216 + f 4 % 256 * 4294967296 + f 5 % 256 * 1099511627776 + f 6 % 256 * 281474976710656 + f 7 % 256 * 72057594037927936)
def gi4 (f : Nat → Int) : Int := w32 (f 0 % 256 + f 1 % 256 * 256 + f 2 % 256 * 65536 + f 3 % 256 * 16777216)
set_option maxRecDepth 100000 in
theorem un_l64 (n : Nat) : n.toUInt64.toInt64 = Int64.ofInt (w64 (n : Int)) := by sorry
set_option maxRecDepth 100000 in
theorem un_i32 (n : Nat) : n.toUInt32.toInt32 = Int32.ofInt (w32 (n : Int)) := by sorry
set_option maxRecDepth 100000 in
theorem un_ofL (n : Nat) : UnsafeMem.ofBits .long n = Value.long (Int64.ofInt (w64 (n : Int))) := by sorry
set_option maxRecDepth 100000 in
theorem un_ofI (n : Nat) : UnsafeMem.ofBits .int n = Value.int (Int32.ofInt (w32 (n : Int))) := by sorry
set_option maxRecDepth 100000 in
theorem un_z (b i : Nat) (l : List Nat) : (((b :: l).zipIdx i).map fun (b, k) => b * 2 ^ (8 * k)).sum = b * 2 ^ (8 * i) + ((l.zipIdx (i + 1)).map fun (b, k) => b * 2 ^ (8 * k)).sum := by sorry
set_option maxRecDepth 100000 in
theorem un_z0 (i : Nat) : ((([] : List Nat).zipIdx i).map fun (b, k) => b * 2 ^ (8 * k)).sum = 0 := by sorry
set_option maxRecDepth 100000 in
theorem un_p (k m : Nat) (h : 2 ^ (8 * k) = m) (b : Nat) : b * 2 ^ (8 * k) = b * m := by sorry
set_option maxRecDepth 100000 in
theorem un_s4 (b0 b1 b2 b3 : Nat) : (([b0, b1, b2, b3] : List Nat).zipIdx.map fun (b, k) => b * 2 ^ (8 * k)).sum = b0 + (b1 * 256 + (b2 * 65536 + b3 * 16777216)) := by sorry
set_option maxRecDepth 100000 in
theorem un_s8 (b0 b1 b2 b3 b4 b5 b6 b7 : Nat) : (([b0, b1, b2, b3, b4, b5, b6, b7] : List Nat).zipIdx.map fun (b, k) => b * 2 ^ (8 * k)).sum = b0 + (b1 * 256 + (b2 * 65536 + (b3 * 16777216 + (b4 * 4294967296 + (b5 * 1099511627776 + (b6 * 281474976710656 + b7 * 72057594037927936)))))) := by sorry
set_option maxRecDepth 100000 in
theorem un_e (z : Int) : ((unB (Int32.ofInt z) : Nat) : Int) = z % 256 := by sorry
set_option maxRecDepth 100000 in
theorem gl8_nat (f : Nat → Int) : w64 ((unB (Int32.ofInt (f 0)) + (unB (Int32.ofInt (f 1)) * 256 + (unB (Int32.ofInt (f 2)) * 65536 + (unB (Int32.ofInt (f 3)) * 16777216 + (unB (Int32.ofInt (f 4)) * 4294967296 + (unB (Int32.ofInt (f 5)) * 1099511627776 + (unB (Int32.ofInt (f 6)) * 281474976710656 + unB (Int32.ofInt (f 7)) * 72057594037927936)))))) : Nat) : Int) = gl8 f := by sorry
set_option maxRecDepth 100000 in
theorem gi4_nat (f : Nat → Int) : w32 ((unB (Int32.ofInt (f 0)) + (unB (Int32.ofInt (f 1)) * 256 + (unB (Int32.ofInt (f 2)) * 65536 + unB (Int32.ofInt (f 3)) * 16777216)) : Nat) : Int) = gi4 f := by sorry
section UNG2
variable {E : CtlPost} {e : Env} {d : Bool} {acts : List Action} {s : State}
set_option maxRecDepth 100000 in
theorem un_getL {a : Addr} {A : Cell} {k : Class} {comp : ClassId} {p : Nat} {off : Int64} {f : Nat → Int} {Q : Value → Jvm.Pre}
    (hA : s.heap[a]? = some A) (hvm : A.vm = .none) (hk : s.vm.classes[A.cls]? = some k) (hkind : k.kind = .array comp .byte) (hneg : ¬ off < 0) (hoff : off.toNatClampNeg = 16 + p)
    (hs : ∀ j : Nat, j < 8 → A.slots[p + j]? = some (.int (Int32.ofInt (f j)))) (hQ : ∀ d' acts', Q (.long (Int64.ofInt (gl8 f))) d' acts' s) : wp (UnsafeMem.get .long (.ref a) off .plain) Q E e d acts s := by sorry
set_option maxRecDepth 100000 in
theorem un_getI {a : Addr} {A : Cell} {k : Class} {comp : ClassId} {p : Nat} {off : Int64} {f : Nat → Int} {Q : Value → Jvm.Pre}
    (hA : s.heap[a]? = some A) (hvm : A.vm = .none) (hk : s.vm.classes[A.cls]? = some k) (hkind : k.kind = .array comp .byte) (hneg : ¬ off < 0) (hoff : off.toNatClampNeg = 16 + p)
    (hs : ∀ j : Nat, j < 4 → A.slots[p + j]? = some (.int (Int32.ofInt (f j)))) (hQ : ∀ d' acts', Q (.int (Int32.ofInt (gi4 f))) d' acts' s) : wp (UnsafeMem.get .int (.ref a) off .plain) Q E e d acts s := by sorry
end UNG2
section UNN
variable {p : Program} {l : Launch} {e : Env} {R : Room} {s : State} {m : MethodId} {args : Array Value} {below : List Frame} {meth : Method} {c : Code} {locs : List Loc} {cells slots : Nat}
set_option maxRecDepth 100000 in
theorem un_nat0 {T : State} (X : Stand p l e R s m args below meth c T locs cells slots) (hexec : p.tables.exec = Jvm.exec) {own C : String} {index : Nat} {y : MethodName} {ret : Option FieldType} {row : NativeRow} {v : Value}
    (hy : y.cls ≠ "java/lang/invoke/MethodHandle" ∧ y.cls ≠ "java/lang/invoke/VarHandle") (hde : parseMethodDescriptor y.desc = some { parameters := [.object "java/lang/Object", .long], returnType := ret })
    (hrow : NativeRow.find? p.tables.natives y.cls y.name y.desc = some row) (hwd : nativeFrameWords y.cls y.name 4 = 6)
    (hown : s.vm.findClass own = some m.cls) (hlink : (Cond.methodLink own index y).before args s = true) (hsel : (Cond.selects C y y).before args s = true) (hinst : (Cond.instanceMethod y).before args s = true) (hnat : (Cond.native y).before args s = true)
    {b a : Addr} {off : Int64} {cB : ClassId} (hcB : s.vm.findClass C = some cB) (hrecv : IsOf cB T b)
    (hsem : ∀ (U : State) (Q : Option Value → Jvm.Pre), U.heap = T.heap → s.vm.Alike U.vm → (∀ d' acts', Q (some v) d' acts' U) → wp (row.sem #[.ref b, .ref a, .long off]) Q (fun _ _ _ => False) e false [] U)
    {g : JFrame} (hg : g.method = m) (hsize : g.locals.size = c.maxLocals) {rest : List Value} (hstack : g.stack = .long off :: .ref a :: .ref b :: rest) (hdg : decode c.code g.pc = .ok (.invokevirtual index, 3))
    (hframes : 1 ≤ R.frames) (hlocals : 2 * g.monitorRoom + (rest.map fun v => v.category).sum + 17 ≤ R.locals) :
    ∃ vm₁, Stand p l e R s m args below meth c (T.setVm vm₁) locs cells slots ∧
      ∀ target, Steps p.tables e below ((T.setVm vm₁).setTop { g with pc := g.pc + 3, stack := v :: rest }) target → Steps p.tables e below (T.setTop g) target := by sorry
end UNN
def yGL : MethodName := ⟨"jdk/internal/misc/Unsafe", "getLong", "(Ljava/lang/Object;J)J"⟩
def yGI : MethodName := ⟨"jdk/internal/misc/Unsafe", "getInt", "(Ljava/lang/Object;J)I"⟩
set_option maxRecDepth 100000 in
theorem clamp64 {i : Int} (h1 : okV (vl i)) : (Int64.ofInt i).toNatClampNeg = i.toNat := by sorry
set_option maxRecDepth 100000 in
theorem neg64 {i : Int} (h0 : 0 ≤ i) (h1 : okV (vl i)) : ¬ Int64.ofInt i < 0 := by sorry
section R30
variable {C : MC} {Z : ZZ} {pc pc' : Nat} {L : List (Nat × AV)} {st : List AV} {h : Hp} {kc ks : Nat}
set_option maxRecDepth 100000 in
theorem b_gl {a n idx : Nat} {off : Int} (q1 : Cond.methodLink C.2.2.1 idx yGL ∈ lw_all) (hd : DI C.2.2.2.1 pc pc' (.invokevirtual idx) 3) (hs : hS h a = (1, n)) (h0 : 16 ≤ off) (hn : off - 16 + 8 ≤ n) (hD : 1 ≤ C.2.1) (hst : (st.map ct).sum ≤ 8)
    (k : AW C Z pc' L (vl (gl8 fun j => hN h a (off - 16 + j)) :: st) h kc ks) : AW C Z pc L (vl off :: vr (some a) :: vr (some 22) :: st) h kc ks := by sorry
set_option maxRecDepth 100000 in
theorem b_gi {a n idx : Nat} {off : Int} (q1 : Cond.methodLink C.2.2.1 idx yGI ∈ lw_all) (hd : DI C.2.2.2.1 pc pc' (.invokevirtual idx) 3) (hs : hS h a = (1, n)) (h0 : 16 ≤ off) (hn : off - 16 + 4 ≤ n) (hD : 1 ≤ C.2.1) (hst : (st.map ct).sum ≤ 8)
    (k : AW C Z pc' L (vi (gi4 fun j => hN h a (off - 16 + j)) :: st) h kc ks) : AW C Z pc L (vl off :: vr (some a) :: vr (some 22) :: st) h kc ks := by sorry
end R30
set_option maxRecDepth 100000 in
theorem CT.ofF {w : WC} {d : Nat} {y : MethodName} {b : ByteArray} {nL : Nat} {ret : Option FieldType} {as : List AV} {h : Hp} {kc ks : Nat} {Q : Option AV → Hp → Prop} (hy : plainFor y = true) (hn : (as.map ct).sum ≤ nL)
    (body : (∀ v ∈ as, okV v) → AW (w, d, y.cls, b, nL, ret, y.name) (zR w Q) 0 (lA 0 as) [] h kc ks) : CT w d y b nL ret as h kc ks Q := by sorry
abbrev cJ22_getLongUnaligned : ByteArray := prog_64_method_334_code
def yJ22_getLongUnaligned : MethodName := ⟨RJ22, "getLongUnaligned", "(Ljava/lang/Object;J)J"⟩
abbrev cJ22_getIntUnaligned : ByteArray := prog_64_method_336_code
def yJ22_getIntUnaligned : MethodName := ⟨RJ22, "getIntUnaligned", "(Ljava/lang/Object;J)I"⟩
def ilJ22_glu : IL := [(0, 1, 1, .lload_n 2), (1, 4, 3, .ldc2_w 696), (4, 5, 1, .land), (5, 6, 1, .lconst 0), (6, 7, 1, .lcmp), (7, 10, 3, .ifCond .ne 10), (10, 11, 1, .aload_n 0), (11, 12, 1, .aload_n 1), (12, 13, 1, .lload_n 2), (13, 16, 3, .invokevirtual 27), (16, 17, 1, .lreturn)]
set_option maxRecDepth 100000 in
theorem dcJ22_glu : dchk cJ22_getLongUnaligned ilJ22_glu = true := by sorry
def ilJ22_giu : IL := [(0, 1, 1, .lload_n 2), (1, 4, 3, .ldc2_w 349), (4, 5, 1, .land), (5, 6, 1, .lconst 0), (6, 7, 1, .lcmp), (7, 10, 3, .ifCond .ne 10), (10, 11, 1, .aload_n 0), (11, 12, 1, .aload_n 1), (12, 13, 1, .lload_n 2), (13, 16, 3, .invokevirtual 17), (16, 17, 1, .ireturn)]
set_option maxRecDepth 100000 in
theorem dcJ22_giu : dchk cJ22_getIntUnaligned ilJ22_giu = true := by sorry
set_option maxRecDepth 100000 in
theorem ct_glu {w : WC} {d a n : Nat} {off : Int} {h : Hp} (hs : hS h a = (1, n)) (h0 : 16 ≤ off) (hn : off - 16 + 8 ≤ n) (h8 : lAnd off 7 = 0) : CT w (d + 1) yJ22_getLongUnaligned cJ22_getLongUnaligned 4 (some .long) [vr (some 22), vr (some a), vl off] h 0 0 (fun v hh => v = some (vl (gl8 fun j => hN h a (off - 16 + j))) ∧ hh = h) := by sorry
set_option maxRecDepth 100000 in
theorem ct_giu {w : WC} {d a n : Nat} {off : Int} {h : Hp} (hs : hS h a = (1, n)) (h0 : 16 ≤ off) (hn : off - 16 + 4 ≤ n) (h8 : lAnd off 3 = 0) : CT w (d + 1) yJ22_getIntUnaligned cJ22_getIntUnaligned 4 (some .int) [vr (some 22), vr (some a), vl off] h 0 0 (fun v hh => v = some (vi (gi4 fun j => hN h a (off - 16 + j))) ∧ hh = h) := by sorry
section R31
variable {w : WC} {d : Nat} {own : String} {b0 : ByteArray} {nL0 : Nat} {ret0 : Option FieldType} {nm0 : String} {Z : ZZ} {pc pc' : Nat} {L : List (Nat × AV)} {st : List AV} {h : Hp} {kc ks mc ms : Nat} {y : MethodName} {b : ByteArray} {nL : Nat} {ret : Option FieldType} {Q : Option AV → Hp → Prop} {idx n : Nat}
set_option maxRecDepth 100000 in
theorem b_callU {as : List AV} (hM : MVc own idx RJ22 y b nL ret n) (hc : CT w d y b nL ret (vr (some 22) :: as) h mc ms Q) (hd : DI b0 pc pc' (.invokevirtual idx) 3) (hn : as.length = n) (hst : (st.map ct).sum ≤ 8)
    (k : ∀ r h', Q r h' → AW (w, d + 1, own, b0, nL0, ret0, nm0) Z pc' L (r.toList ++ st) h' kc ks) : AW (w, d + 1, own, b0, nL0, ret0, nm0) Z pc L (as.reverse ++ vr (some 22) :: st) h (kc + mc) (ks + ms) := by sorry
set_option maxRecDepth 100000 in
theorem b_guL {a : Nat} {off : Int} (hq : Cond.methodLink own idx ⟨"jdk/internal/misc/Unsafe", "getLongUnaligned", "(Ljava/lang/Object;J)J"⟩ ∈ lw_all) (hd : DI b0 pc pc' (.invokevirtual idx) 3) (hs : (hS h a).1 = 1 ∧ 16 ≤ off ∧ off - 16 + 8 ≤ (hS h a).2 ∧ lAnd off 7 = 0) (hst : (st.map ct).sum ≤ 8)
    (k : AW (w, d + 2, own, b0, nL0, ret0, nm0) Z pc' L (vl (gl8 fun j => hN h a (off - 16 + j)) :: st) h kc ks) : AW (w, d + 2, own, b0, nL0, ret0, nm0) Z pc L (vl off :: vr (some a) :: vr (some 22) :: st) h kc ks := by sorry
set_option maxRecDepth 100000 in
theorem b_guI {a : Nat} {off : Int} (hq : Cond.methodLink own idx ⟨"jdk/internal/misc/Unsafe", "getIntUnaligned", "(Ljava/lang/Object;J)I"⟩ ∈ lw_all) (hd : DI b0 pc pc' (.invokevirtual idx) 3) (hs : (hS h a).1 = 1 ∧ 16 ≤ off ∧ off - 16 + 4 ≤ (hS h a).2 ∧ lAnd off 3 = 0) (hst : (st.map ct).sum ≤ 8)
    (k : AW (w, d + 2, own, b0, nL0, ret0, nm0) Z pc' L (vi (gi4 fun j => hN h a (off - 16 + j)) :: st) h kc ks) : AW (w, d + 2, own, b0, nL0, ret0, nm0) Z pc L (vl off :: vr (some a) :: vr (some 22) :: st) h kc ks := by sorry
end R31
end

section
set_option maxRecDepth 100000
end

section
set_option maxRecDepth 100000
def ilJ23_bitCount : IL := [(0, 1, 1, .lload_n 0), (1, 2, 1, .lload_n 0), (2, 3, 1, .iconst 1), (3, 4, 1, .lushr), (4, 7, 3, .ldc2_w 314), (7, 8, 1, .land), (8, 9, 1, .lsub), (9, 10, 1, .lstore_n 0), (10, 11, 1, .lload_n 0), (11, 14, 3, .ldc2_w 316), (14, 15, 1, .land), (15, 16, 1, .lload_n 0), (16, 17, 1, .iconst 2), (17, 18, 1, .lushr), (18, 21, 3, .ldc2_w 316), (21, 22, 1, .land), (22, 23, 1, .ladd), (23, 24, 1, .lstore_n 0), (24, 25, 1, .lload_n 0), (25, 26, 1, .lload_n 0), (26, 27, 1, .iconst 4), (27, 28, 1, .lushr), (28, 29, 1, .ladd), (29, 32, 3, .ldc2_w 318), (32, 33, 1, .land), (33, 34, 1, .lstore_n 0), (34, 35, 1, .lload_n 0), (35, 36, 1, .lload_n 0), (36, 38, 2, .bipush 8), (38, 39, 1, .lushr), (39, 40, 1, .ladd), (40, 41, 1, .lstore_n 0), (41, 42, 1, .lload_n 0), (42, 43, 1, .lload_n 0), (43, 45, 2, .bipush 16), (45, 46, 1, .lushr), (46, 47, 1, .ladd), (47, 48, 1, .lstore_n 0), (48, 49, 1, .lload_n 0), (49, 50, 1, .lload_n 0), (50, 52, 2, .bipush 32), (52, 53, 1, .lushr), (53, 54, 1, .ladd), (54, 55, 1, .lstore_n 0), (55, 56, 1, .lload_n 0), (56, 57, 1, .l2i), (57, 59, 2, .bipush 127), (59, 60, 1, .iand), (60, 61, 1, .ireturn)]
def ilJ10_cardinality : IL := [(0, 1, 1, .iconst 0), (1, 2, 1, .istore_n 1), (2, 3, 1, .iconst 0), (3, 4, 1, .istore_n 2), (4, 5, 1, .iload_n 2), (5, 6, 1, .aload_n 0), (6, 9, 3, .getfield 7), (9, 12, 3, .if_icmp .ge 21), (12, 13, 1, .iload_n 1), (13, 14, 1, .aload_n 0), (14, 17, 3, .getfield 11), (17, 18, 1, .iload_n 2), (18, 19, 1, .laload), (19, 22, 3, .invokestatic 196), (22, 23, 1, .iadd), (23, 24, 1, .istore_n 1), (24, 27, 3, .iinc 2 1), (27, 30, 3, .goto (-23)), (30, 31, 1, .iload_n 1), (31, 32, 1, .ireturn)]
def ilJ9_copyOf_4 : IL := [(0, 1, 1, .iload_n 1), (1, 2, 1, .aload_n 0), (2, 3, 1, .arraylength), (3, 6, 3, .if_icmp .ne 11), (6, 7, 1, .aload_n 0), (7, 10, 3, .invokevirtual 319), (10, 13, 3, .checkcast 320), (13, 14, 1, .areturn), (14, 15, 1, .iload_n 1), (15, 17, 2, .newarray .long), (17, 18, 1, .astore_n 2), (18, 19, 1, .aload_n 0), (19, 20, 1, .iconst 0), (20, 21, 1, .aload_n 2), (21, 22, 1, .iconst 0), (22, 23, 1, .aload_n 0), (23, 24, 1, .arraylength), (24, 25, 1, .iload_n 1), (25, 28, 3, .invokestatic 304), (28, 31, 3, .invokestatic 150), (31, 32, 1, .aload_n 2), (32, 33, 1, .areturn)]
def ilJ10_initWords : IL := [(0, 1, 1, .aload_n 0), (1, 2, 1, .iload_n 1), (2, 3, 1, .iconst 1), (3, 4, 1, .isub), (4, 7, 3, .invokestatic 52), (7, 8, 1, .iconst 1), (8, 9, 1, .iadd), (9, 11, 2, .newarray .long), (11, 14, 3, .putfield 11), (14, 15, 1, .return_)]
def ilJ10_init : IL := [(0, 1, 1, .aload_n 0), (1, 4, 3, .invokespecial 21), (4, 5, 1, .aload_n 0), (5, 6, 1, .iconst 0), (6, 9, 3, .putfield 7), (9, 10, 1, .aload_n 0), (10, 11, 1, .iconst 0), (11, 14, 3, .putfield 24), (14, 15, 1, .iload_n 1), (15, 18, 3, .ifCond .ge 30), (18, 21, 3, .new 31), (21, 22, 1, .dup), (22, 25, 3, .new 33), (25, 26, 1, .dup), (26, 29, 3, .invokespecial 35), (29, 31, 2, .ldc 36), (31, 34, 3, .invokevirtual 38), (34, 35, 1, .iload_n 1), (35, 38, 3, .invokevirtual 42), (38, 41, 3, .invokevirtual 45), (41, 44, 3, .invokespecial 49), (44, 45, 1, .athrow), (45, 46, 1, .aload_n 0), (46, 47, 1, .iload_n 1), (47, 50, 3, .invokevirtual 27), (50, 51, 1, .aload_n 0), (51, 52, 1, .iconst 1), (52, 55, 3, .putfield 24), (55, 56, 1, .return_)]
def ilJ21_numberOfLeadingZeros : IL := [(0, 1, 1, .iload_n 0), (1, 4, 3, .ifCond .gt 14), (4, 5, 1, .iload_n 0), (5, 8, 3, .ifCond .ne 8), (8, 10, 2, .bipush 32), (10, 13, 3, .goto 4), (13, 14, 1, .iconst 0), (14, 15, 1, .ireturn), (15, 17, 2, .bipush 31), (17, 18, 1, .istore_n 1), (18, 19, 1, .iload_n 0), (19, 22, 3, .ldc_w 264), (22, 25, 3, .if_icmp .lt 11), (25, 28, 3, .iinc 1 (-16)), (28, 29, 1, .iload_n 0), (29, 31, 2, .bipush 16), (31, 32, 1, .iushr), (32, 33, 1, .istore_n 0), (33, 34, 1, .iload_n 0), (34, 37, 3, .sipush 256), (37, 40, 3, .if_icmp .lt 11), (40, 43, 3, .iinc 1 (-8)), (43, 44, 1, .iload_n 0), (44, 46, 2, .bipush 8), (46, 47, 1, .iushr), (47, 48, 1, .istore_n 0), (48, 49, 1, .iload_n 0), (49, 51, 2, .bipush 16), (51, 54, 3, .if_icmp .lt 10), (54, 57, 3, .iinc 1 (-4)), (57, 58, 1, .iload_n 0), (58, 59, 1, .iconst 4), (59, 60, 1, .iushr), (60, 61, 1, .istore_n 0), (61, 62, 1, .iload_n 0), (62, 63, 1, .iconst 4), (63, 66, 3, .if_icmp .lt 10), (66, 69, 3, .iinc 1 (-2)), (69, 70, 1, .iload_n 0), (70, 71, 1, .iconst 2), (71, 72, 1, .iushr), (72, 73, 1, .istore_n 0), (73, 74, 1, .iload_n 1), (74, 75, 1, .iload_n 0), (75, 76, 1, .iconst 1), (76, 77, 1, .iushr), (77, 78, 1, .isub), (78, 79, 1, .ireturn)]
def ilJ23_numberOfLeadingZeros : IL := [(0, 1, 1, .lload_n 0), (1, 3, 2, .bipush 32), (3, 4, 1, .lushr), (4, 5, 1, .l2i), (5, 6, 1, .istore_n 2), (6, 7, 1, .iload_n 2), (7, 10, 3, .ifCond .ne 14), (10, 12, 2, .bipush 32), (12, 13, 1, .lload_n 0), (13, 14, 1, .l2i), (14, 17, 3, .invokestatic 308), (17, 18, 1, .iadd), (18, 21, 3, .goto 7), (21, 22, 1, .iload_n 2), (22, 25, 3, .invokestatic 308), (25, 26, 1, .ireturn)]
def ilJ10_length : IL := [(0, 1, 1, .aload_n 0), (1, 4, 3, .getfield 7), (4, 7, 3, .ifCond .ne 5), (7, 8, 1, .iconst 0), (8, 9, 1, .ireturn), (9, 11, 2, .bipush 64), (11, 12, 1, .aload_n 0), (12, 15, 3, .getfield 7), (15, 16, 1, .iconst 1), (16, 17, 1, .isub), (17, 18, 1, .imul), (18, 20, 2, .bipush 64), (20, 21, 1, .aload_n 0), (21, 24, 3, .getfield 11), (24, 25, 1, .aload_n 0), (25, 28, 3, .getfield 7), (28, 29, 1, .iconst 1), (29, 30, 1, .isub), (30, 31, 1, .laload), (31, 34, 3, .invokestatic 190), (34, 35, 1, .isub), (35, 36, 1, .iadd), (36, 37, 1, .ireturn)]
def ilJ10_or : IL := [(0, 1, 1, .aload_n 0), (1, 2, 1, .aload_n 1), (2, 5, 3, .if_acmp .ne 4), (5, 6, 1, .return_), (6, 7, 1, .aload_n 0), (7, 10, 3, .getfield 7), (10, 11, 1, .aload_n 1), (11, 14, 3, .getfield 7), (14, 17, 3, .invokestatic 193), (17, 18, 1, .istore_n 2), (18, 19, 1, .aload_n 0), (19, 22, 3, .getfield 7), (22, 23, 1, .aload_n 1), (23, 26, 3, .getfield 7), (26, 29, 3, .if_icmp .ge 19), (29, 30, 1, .aload_n 0), (30, 31, 1, .aload_n 1), (31, 34, 3, .getfield 7), (34, 37, 3, .invokevirtual 139), (37, 38, 1, .aload_n 0), (38, 39, 1, .aload_n 1), (39, 42, 3, .getfield 7), (42, 45, 3, .putfield 7), (45, 46, 1, .iconst 0), (46, 47, 1, .istore_n 3), (47, 48, 1, .iload_n 3), (48, 49, 1, .iload_n 2), (49, 52, 3, .if_icmp .ge 24), (52, 53, 1, .aload_n 0), (53, 56, 3, .getfield 11), (56, 57, 1, .iload_n 3), (57, 58, 1, .dup2), (58, 59, 1, .laload), (59, 60, 1, .aload_n 1), (60, 63, 3, .getfield 11), (63, 64, 1, .iload_n 3), (64, 65, 1, .laload), (65, 66, 1, .lor), (66, 67, 1, .lastore), (67, 70, 3, .iinc 3 1), (70, 73, 3, .goto (-23)), (73, 74, 1, .iload_n 2), (74, 75, 1, .aload_n 1), (75, 78, 3, .getfield 7), (78, 81, 3, .if_icmp .ge 22), (81, 82, 1, .aload_n 1), (82, 85, 3, .getfield 11), (85, 86, 1, .iload_n 2), (86, 87, 1, .aload_n 0), (87, 90, 3, .getfield 11), (90, 91, 1, .iload_n 2), (91, 92, 1, .aload_n 0), (92, 95, 3, .getfield 7), (95, 96, 1, .iload_n 2), (96, 97, 1, .isub), (97, 100, 3, .invokestatic 199), (100, 101, 1, .aload_n 0), (101, 104, 3, .invokevirtual 56), (104, 105, 1, .return_)]
def ilJ11_isLatin1 : IL := [(0, 3, 3, .getstatic 38), (3, 6, 3, .ifCond .eq 14), (6, 7, 1, .aload_n 0), (7, 10, 3, .getfield 15), (10, 13, 3, .ifCond .ne 7), (13, 14, 1, .iconst 1), (14, 17, 3, .goto 4), (17, 18, 1, .iconst 0), (18, 19, 1, .ireturn)]
def ilJ13_checkIndex : IL := [(0, 1, 1, .iload_n 0), (1, 4, 3, .ifCond .lt 8), (4, 5, 1, .iload_n 0), (5, 6, 1, .iload_n 1), (6, 9, 3, .if_icmp .lt 10), (9, 10, 1, .aload_n 2), (10, 11, 1, .iload_n 0), (11, 12, 1, .iload_n 1), (12, 15, 3, .invokestatic 95), (15, 16, 1, .athrow), (16, 17, 1, .iload_n 0), (17, 18, 1, .ireturn)]
def ilJ11_checkIndex : IL := [(0, 1, 1, .iload_n 0), (1, 2, 1, .iload_n 1), (2, 5, 3, .getstatic 1053), (5, 8, 3, .invokestatic 1059), (8, 9, 1, .pop), (9, 10, 1, .return_)]
def ilJ12_charAt : IL := [(0, 1, 1, .iload_n 1), (1, 2, 1, .aload_n 0), (2, 3, 1, .arraylength), (3, 6, 3, .invokestatic 9), (6, 7, 1, .aload_n 0), (7, 8, 1, .iload_n 1), (8, 9, 1, .baload), (9, 12, 3, .sipush 255), (12, 13, 1, .iand), (13, 14, 1, .i2c), (14, 15, 1, .ireturn)]
def ilJ11_charAt : IL := [(0, 1, 1, .aload_n 0), (1, 4, 3, .invokevirtual 492), (4, 7, 3, .ifCond .eq 12), (7, 8, 1, .aload_n 0), (8, 11, 3, .getfield 9), (11, 12, 1, .iload_n 1), (12, 15, 3, .invokestatic 495), (15, 16, 1, .ireturn), (16, 17, 1, .aload_n 0), (17, 20, 3, .getfield 9), (20, 21, 1, .iload_n 1), (21, 24, 3, .invokestatic 498), (24, 25, 1, .ireturn)]
def ilJ11_coder : IL := [(0, 3, 3, .getstatic 38), (3, 6, 3, .ifCond .eq 10), (6, 7, 1, .aload_n 0), (7, 10, 3, .getfield 15), (10, 13, 3, .goto 4), (13, 14, 1, .iconst 1), (14, 15, 1, .ireturn)]
def ilJ12_equals : IL := [(0, 1, 1, .aload_n 0), (1, 2, 1, .arraylength), (2, 3, 1, .aload_n 1), (3, 4, 1, .arraylength), (4, 7, 3, .if_icmp .ne 30), (7, 8, 1, .iconst 0), (8, 9, 1, .istore_n 2), (9, 10, 1, .iload_n 2), (10, 11, 1, .aload_n 0), (11, 12, 1, .arraylength), (12, 15, 3, .if_icmp .ge 20), (15, 16, 1, .aload_n 0), (16, 17, 1, .iload_n 2), (17, 18, 1, .baload), (18, 19, 1, .aload_n 1), (19, 20, 1, .iload_n 2), (20, 21, 1, .baload), (21, 24, 3, .if_icmp .eq 5), (24, 25, 1, .iconst 0), (25, 26, 1, .ireturn), (26, 29, 3, .iinc 2 1), (29, 32, 3, .goto (-20)), (32, 33, 1, .iconst 1), (33, 34, 1, .ireturn), (34, 35, 1, .iconst 0), (35, 36, 1, .ireturn)]
def ilJ11_equals : IL := [(0, 1, 1, .aload_n 0), (1, 2, 1, .aload_n 1), (2, 5, 3, .if_acmp .ne 5), (5, 6, 1, .iconst 1), (6, 7, 1, .ireturn), (7, 8, 1, .aload_n 1), (8, 11, 3, .instanceof 10), (11, 14, 3, .ifCond .eq 43), (14, 15, 1, .aload_n 1), (15, 18, 3, .checkcast 10), (18, 19, 1, .astore_n 2), (19, 22, 3, .getstatic 38), (22, 25, 3, .ifCond .eq 14), (25, 26, 1, .aload_n 0), (26, 29, 3, .getfield 15), (29, 30, 1, .aload_n 2), (30, 33, 3, .getfield 15), (33, 36, 3, .if_icmp .ne 21), (36, 37, 1, .aload_n 0), (37, 40, 3, .getfield 9), (40, 41, 1, .aload_n 2), (41, 44, 3, .getfield 9), (44, 47, 3, .invokestatic 541), (47, 50, 3, .ifCond .eq 7), (50, 51, 1, .iconst 1), (51, 54, 3, .goto 4), (54, 55, 1, .iconst 0), (55, 56, 1, .ireturn)]
def ilJ19_signedHashCode : IL := [(0, 1, 1, .iload_n 2), (1, 2, 1, .iload_n 3), (2, 3, 1, .iadd), (3, 5, 2, .istore 4), (5, 6, 1, .iload_n 2), (6, 8, 2, .istore 5), (8, 10, 2, .iload 5), (10, 12, 2, .iload 4), (12, 15, 3, .if_icmp .ge 23), (15, 17, 2, .bipush 31), (17, 18, 1, .iload_n 0), (18, 19, 1, .imul), (19, 20, 1, .aload_n 1), (20, 22, 2, .iload 5), (22, 23, 1, .baload), (23, 26, 3, .sipush 255), (26, 27, 1, .iand), (27, 28, 1, .iadd), (28, 29, 1, .istore_n 0), (29, 32, 3, .iinc 5 1), (32, 35, 3, .goto (-24)), (35, 36, 1, .iload_n 0), (36, 37, 1, .ireturn)]
def ilJ19_vectorizedHashCode : IL := [(0, 2, 2, .iload 4), (2, 44, 42, .tableswitch 127 4 10 #[42, 55, 127, 127, 88, 101, 114]), (44, 45, 1, .iload_n 3), (45, 46, 1, .aload_n 0), (46, 49, 3, .checkcast 60), (49, 50, 1, .iload_n 1), (50, 51, 1, .iload_n 2), (51, 54, 3, .invokestatic 62), (54, 57, 3, .goto 103), (57, 58, 1, .aload_n 0), (58, 61, 3, .instanceof 60), (61, 64, 3, .ifCond .eq 16), (64, 65, 1, .iload_n 3), (65, 66, 1, .aload_n 0), (66, 69, 3, .checkcast 60), (69, 70, 1, .iload_n 1), (70, 71, 1, .iload_n 2), (71, 74, 3, .invokestatic 66), (74, 77, 3, .goto 83), (77, 78, 1, .iload_n 3), (78, 79, 1, .aload_n 0), (79, 82, 3, .checkcast 69), (82, 83, 1, .iload_n 1), (83, 84, 1, .iload_n 2), (84, 87, 3, .invokestatic 71), (87, 90, 3, .goto 70), (90, 91, 1, .iload_n 3), (91, 92, 1, .aload_n 0), (92, 95, 3, .checkcast 60), (95, 96, 1, .iload_n 1), (96, 97, 1, .iload_n 2), (97, 100, 3, .invokestatic 75), (100, 103, 3, .goto 57), (103, 104, 1, .iload_n 3), (104, 105, 1, .aload_n 0), (105, 108, 3, .checkcast 77), (108, 109, 1, .iload_n 1), (109, 110, 1, .iload_n 2), (110, 113, 3, .invokestatic 79), (113, 116, 3, .goto 44), (116, 117, 1, .iload_n 3), (117, 118, 1, .aload_n 0), (118, 121, 3, .checkcast 82), (121, 122, 1, .iload_n 1), (122, 123, 1, .iload_n 2), (123, 126, 3, .invokestatic 84), (126, 129, 3, .goto 31), (129, 132, 3, .new 87), (132, 133, 1, .dup), (133, 136, 3, .new 89), (136, 137, 1, .dup), (137, 140, 3, .invokespecial 91), (140, 142, 2, .ldc 92), (142, 145, 3, .invokevirtual 94), (145, 147, 2, .iload 4), (147, 150, 3, .invokevirtual 98), (150, 153, 3, .invokevirtual 101), (153, 156, 3, .invokespecial 105), (156, 157, 1, .athrow), (157, 158, 1, .ireturn)]
def ilJ12_hashCode : IL := [(0, 1, 1, .aload_n 0), (1, 2, 1, .arraylength), (2, 28, 26, .lookupswitch 40 #[(0, 26), (1, 30)]), (28, 29, 1, .iconst 0), (29, 32, 3, .goto 22), (32, 33, 1, .aload_n 0), (33, 34, 1, .iconst 0), (34, 35, 1, .baload), (35, 38, 3, .sipush 255), (38, 39, 1, .iand), (39, 42, 3, .goto 12), (42, 43, 1, .aload_n 0), (43, 44, 1, .iconst 0), (44, 45, 1, .aload_n 0), (45, 46, 1, .arraylength), (46, 47, 1, .iconst 0), (47, 48, 1, .iconst 4), (48, 51, 3, .invokestatic 84), (51, 52, 1, .ireturn)]
def ilJ11_hashCode : IL := [(0, 1, 1, .aload_n 0), (1, 4, 3, .getfield 19), (4, 5, 1, .istore_n 1), (5, 6, 1, .iload_n 1), (6, 9, 3, .ifCond .ne 52), (9, 10, 1, .aload_n 0), (10, 13, 3, .getfield 23), (13, 16, 3, .ifCond .ne 45), (16, 17, 1, .aload_n 0), (17, 20, 3, .invokevirtual 492), (20, 23, 3, .ifCond .eq 13), (23, 24, 1, .aload_n 0), (24, 27, 3, .getfield 9), (27, 30, 3, .invokestatic 628), (30, 33, 3, .goto 10), (33, 34, 1, .aload_n 0), (34, 37, 3, .getfield 9), (37, 40, 3, .invokestatic 632), (40, 41, 1, .istore_n 1), (41, 42, 1, .iload_n 1), (42, 45, 3, .ifCond .ne 11), (45, 46, 1, .aload_n 0), (46, 47, 1, .iconst 1), (47, 50, 3, .putfield 23), (50, 53, 3, .goto 8), (53, 54, 1, .aload_n 0), (54, 55, 1, .iload_n 1), (55, 58, 3, .putfield 19), (58, 59, 1, .iload_n 1), (59, 60, 1, .ireturn)]
def ilJ11_length : IL := [(0, 1, 1, .aload_n 0), (1, 4, 3, .getfield 9), (4, 5, 1, .arraylength), (5, 6, 1, .aload_n 0), (6, 9, 3, .invokevirtual 335), (9, 10, 1, .ishr), (10, 11, 1, .ireturn)]
def ilJ12_canEncode : IL := [(0, 1, 1, .iload_n 0), (1, 4, 3, .ifCond .lt 14), (4, 5, 1, .iload_n 0), (5, 8, 3, .sipush 255), (8, 11, 3, .if_icmp .gt 7), (11, 12, 1, .iconst 1), (12, 15, 3, .goto 4), (15, 16, 1, .iconst 0), (16, 17, 1, .ireturn)]
def hJ23_bitCount (n : Nat) (a0 : Int) (N : NW) (R : RW_) : OH Int :=
  lt (w64 (a0 - (lAnd (lUshr a0 1) 6148914691236517205))) (fun x0_1 => lt (w64 ((lAnd x0_1 3689348814741910323) + (lAnd (lUshr x0_1 2) 3689348814741910323))) (fun x0_2 => lt (lAnd (w64 (x0_2 + (lUshr x0_2 4))) 1085102592571150095) (fun x0_3 => lt (w64 (x0_3 + (lUshr x0_3 8))) (fun x0_4 => lt (w64 (x0_4 + (lUshr x0_4 16))) (fun x0_5 => lt (w64 (x0_5 + (lUshr x0_5 32))) (fun x0_6 => some ((iAnd (l2I x0_6) 127, N, R), 0, 0)))))))
def hJ10_cardinality_l4 (v0 : Nat) (K : Int → NW → RW_ → OH Int) : Nat → Int → Int → NW → RW_ → OH Int
  | 0, _, _, _, _ => none
  | n + 1, v1, v2, N, R => ck (R.2.1 v0 = (12, 3)) (if (N v0 1) ≤ v2 then (K v1 N R) else (lt (R.1 v0 0) (fun (r2 : Option Nat) => dr r2 (fun ad3 => ck ((R.2.1 ad3).1 = 2 ∧ 0 ≤ v2 ∧ v2 < (R.2.1 ad3).2) (bh (hJ23_bitCount n (N ad3 v2) N R) (fun r5 N6 R7 => hJ10_cardinality_l4 v0 K n (w32 (v1 + r5)) (w32 (v2 + 1)) N6 R7))))))
def hJ10_cardinality (n : Nat) (p0 : Nat) (N : NW) (R : RW_) : OH Int :=
  hJ10_cardinality_l4 p0 (fun (x1_15 : Int) (N16 : NW) (R17 : RW_) => (some ((x1_15, N16, R17), 0, 0) : OH Int)) n 0 0 N R
def hJ10_checkInvariants (n : Nat) (p0 : Nat) (N : NW) (R : RW_) : OH Int :=
  some ((0, N, R), 0, 0)
def hJ9_copyOf_4 (n : Nat) (rp0 : Option Nat) (a1 : Int) (N : NW) (R : RW_) : OH (Option Nat) :=
  dr rp0 (fun ad1 => ck ((R.2.1 ad1).1 < 6 ∧ (R.2.1 ad1).2 < 2147483648) (if a1 = (((R.2.1 ad1).2 : Nat) : Int) then (none) else (ck (0 ≤ a1 ∧ a1 ≤ 60000000) (lt (a1).toNat (fun (m4 : Nat) => al m4 (lt R.2.2 (fun (ad5 : Nat) => lt (nN N R) (fun (N8 : NW) => lt (nR R 2 m4) (fun (R9 : RW_) => ck ((R9.2.1 ad1).1 < 6 ∧ (R9.2.1 ad1).2 < 2147483648) (ck (((R9.2.1 ad1).1 = 2 ∧ (R9.2.1 ad5).1 = 2 ∧ 512 ≤ ad5) ∧ 0 ≤ (0 : Int) ∧ 0 ≤ (0 : Int) ∧ 0 ≤ (iMin (((R9.2.1 ad1).2 : Nat) : Int) a1) ∧ (0 : Int) + (iMin (((R9.2.1 ad1).2 : Nat) : Int) a1) ≤ (R9.2.1 ad1).2 ∧ (0 : Int) + (iMin (((R9.2.1 ad1).2 : Nat) : Int) a1) ≤ (R9.2.1 ad5).2) (lt (cpN N8 ad1 ad5 0 0 (iMin (((R9.2.1 ad1).2 : Nat) : Int) a1)) (fun (N13 : NW) => some (((some ad5), N13, R9), 0, 0)))))))))))))
def hJ10_ensureCapacity (n : Nat) (p0 : Nat) (a1 : Int) (N : NW) (R : RW_) : OH Int :=
  ck (R.2.1 p0 = (12, 3)) (lt (R.1 p0 0) (fun (r2 : Option Nat) => dr r2 (fun ad3 => ck ((R.2.1 ad3).1 < 6 ∧ (R.2.1 ad3).2 < 2147483648) (if a1 ≤ (((R.2.1 ad3).2 : Nat) : Int) then (some ((0, N, R), 0, 0)) else (lt (R.1 p0 0) (fun (r5 : Option Nat) => dr r5 (fun ad6 => ck ((R.2.1 ad6).1 < 6 ∧ (R.2.1 ad6).2 < 2147483648) (lt (iMax (w32 (2 * (((R.2.1 ad6).2 : Nat) : Int))) a1) (fun x2_8 => lt (R.1 p0 0) (fun (r9 : Option Nat) => bh (hJ9_copyOf_4 n r9 x2_8 N R) (fun r10 N11 R12 => ck (R12.2.1 p0 = (12, 3)) (ck (512 ≤ p0) (ck (643 < p0) (lt (sR R12 p0 0 r10) (fun (R22 : RW_) => lt (up2 N11 p0 2 0) (fun (N25 : NW) => some ((0, N25, R22), 0, 0)))))))))))))))))
def hJ10_expandTo (n : Nat) (p0 : Nat) (a1 : Int) (N : NW) (R : RW_) : OH Int :=
  ck (R.2.1 p0 = (12, 3)) (if (w32 (a1 + 1)) ≤ (N p0 1) then (some ((0, N, R), 0, 0)) else (bh (hJ10_ensureCapacity n p0 (w32 (a1 + 1)) N R) (fun r2 N3 R4 => ck (R4.2.1 p0 = (12, 3)) (ck (512 ≤ p0) (lt (up2 N3 p0 1 (w32 (a1 + 1))) (fun (N13 : NW) => some ((0, N13, R4), 0, 0)))))))
def hJ10_get (n : Nat) (p0 : Nat) (a1 : Int) (N : NW) (R : RW_) : OH Int :=
  if 0 ≤ a1 then (ck (R.2.1 p0 = (12, 3)) (bh (hJ10_checkInvariants n p0 N R) (fun r2 N3 R4 => bn (kJ10_wordIndex n a1 N3) (fun r11 N12 => ck (R4.2.1 p0 = (12, 3)) (if (N12 p0 1) ≤ r11 then (some ((0, N12, R4), 0, 0)) else (lt (R4.1 p0 0) (fun (r15 : Option Nat) => dr r15 (fun ad16 => ck ((R4.2.1 ad16).1 = 2 ∧ 0 ≤ r11 ∧ r11 < (R4.2.1 ad16).2) (if (lCmp (lAnd (N12 ad16 r11) (lShl 1 a1)) 0) = 0 then (some ((0, N12, R4), 0, 0)) else (some ((1, N12, R4), 0, 0))))))))))) else (none)
def hJ10_initWords (n : Nat) (p0 : Nat) (a1 : Int) (N : NW) (R : RW_) : OH Int :=
  bn (kJ10_wordIndex n (w32 (a1 - 1)) N) (fun r1 N2 => ck (0 ≤ (w32 (r1 + 1)) ∧ (w32 (r1 + 1)) ≤ 60000000) (lt ((w32 (r1 + 1))).toNat (fun (m5 : Nat) => al m5 (lt R.2.2 (fun (ad6 : Nat) => lt (nN N2 R) (fun (N9 : NW) => lt (nR R 2 m5) (fun (R10 : RW_) => ck (R10.2.1 p0 = (12, 3)) (ck (512 ≤ p0) (ck (643 < p0) (lt (sR R10 p0 0 (some ad6)) (fun (R15 : RW_) => some ((0, N9, R15), 0, 0))))))))))))
def hJ10_init (n : Nat) (p0 : Nat) (a1 : Int) (N : NW) (R : RW_) : OH Int :=
  ck (R.2.1 p0 = (12, 3)) (ck (512 ≤ p0) (lt (up2 N p0 1 0) (fun (N3 : NW) => lt (up2 N3 p0 2 0) (fun (N4 : NW) => if 0 ≤ a1 then (bh (hJ10_initWords n p0 a1 N4 R) (fun r5 N6 R7 => ck (R7.2.1 p0 = (12, 3)) (lt (up2 N6 p0 2 1) (fun (N15 : NW) => some ((0, N15, R7), 0, 0))))) else (none)))))
def hJ21_numberOfLeadingZeros (n : Nat) (a0 : Int) (N : NW) (R : RW_) : OH Int :=
  if 0 < a0 then (lt (fun (x0_1 : Int) (x1_2 : Int) (N3 : NW) (R4 : RW_) => (lt (fun (x0_9 : Int) (x1_10 : Int) (N11 : NW) (R12 : RW_) => (lt (fun (x0_17 : Int) (x1_18 : Int) (N19 : NW) (R20 : RW_) => (lt (fun (x0_25 : Int) (x1_26 : Int) (N27 : NW) (R28 : RW_) => (some ((w32 (x1_26 - (iUshr x0_25 1)), N27, R28), 0, 0) : OH Int)) (fun (J29 : Int → Int → NW → RW_ → OH Int) => if x0_17 < 4 then (J29 x0_17 x1_18 N19 R20) else (J29 (iUshr x0_17 2) (w32 (x1_18 + (-2))) N19 R20)) : OH Int)) (fun (J21 : Int → Int → NW → RW_ → OH Int) => if x0_9 < 16 then (J21 x0_9 x1_10 N11 R12) else (J21 (iUshr x0_9 4) (w32 (x1_10 + (-4))) N11 R12)) : OH Int)) (fun (J13 : Int → Int → NW → RW_ → OH Int) => if x0_1 < 256 then (J13 x0_1 x1_2 N3 R4) else (J13 (iUshr x0_1 8) (w32 (x1_2 + (-8))) N3 R4)) : OH Int)) (fun (J5 : Int → Int → NW → RW_ → OH Int) => if a0 < 65536 then (J5 a0 31 N R) else (J5 (iUshr a0 16) (w32 (31 + (-16))) N R))) else (if a0 = 0 then (some ((32, N, R), 0, 0)) else (some ((0, N, R), 0, 0)))
def hJ23_numberOfLeadingZeros (n : Nat) (a0 : Int) (N : NW) (R : RW_) : OH Int :=
  if (l2I (lUshr a0 32)) = 0 then (bh (hJ21_numberOfLeadingZeros n (l2I a0) N R) (fun r10 N11 R12 => some ((w32 (32 + r10), N11, R12), 0, 0))) else (bh (hJ21_numberOfLeadingZeros n (l2I (lUshr a0 32)) N R) (fun r1 N2 R3 => some ((r1, N2, R3), 0, 0)))
def hJ10_length (n : Nat) (p0 : Nat) (N : NW) (R : RW_) : OH Int :=
  ck (R.2.1 p0 = (12, 3)) (if (N p0 1) = 0 then (some ((0, N, R), 0, 0)) else (lt (R.1 p0 0) (fun (r2 : Option Nat) => dr r2 (fun ad3 => ck ((R.2.1 ad3).1 = 2 ∧ 0 ≤ (w32 ((N p0 1) - 1)) ∧ (w32 ((N p0 1) - 1)) < (R.2.1 ad3).2) (bh (hJ23_numberOfLeadingZeros n (N ad3 (w32 ((N p0 1) - 1))) N R) (fun r5 N6 R7 => some ((w32 ((w32 (64 * (w32 ((N p0 1) - 1)))) + (w32 (64 - r5))), N6, R7), 0, 0)))))))
def hJ10_or_l47 (v0 : Nat) (v1 : Nat) (v2 : Int) (K : NW → RW_ → OH Int) : Nat → Int → NW → RW_ → OH Int
  | 0, _, _, _ => none
  | n + 1, v3, N, R => if v2 ≤ v3 then (K N R) else (ck (R.2.1 v0 = (12, 3)) (lt (R.1 v0 0) (fun (r12 : Option Nat) => dr r12 (fun ad13 => ck ((R.2.1 ad13).1 = 2 ∧ 0 ≤ v3 ∧ v3 < (R.2.1 ad13).2) (ck (R.2.1 v1 = (12, 3)) (lt (R.1 v1 0) (fun (r16 : Option Nat) => dr r16 (fun ad17 => ck ((R.2.1 ad17).1 = 2 ∧ 0 ≤ v3 ∧ v3 < (R.2.1 ad17).2) (ck (((R.2.1 ad13).1 = 2 ∧ 512 ≤ ad13) ∧ 0 ≤ v3 ∧ v3 < (R.2.1 ad13).2) (lt (up2 N ad13 v3 (lOr (N ad13 v3) (N ad17 v3))) (fun (N20 : NW) => hJ10_or_l47 v0 v1 v2 K n (w32 (v3 + 1)) N20 R)))))))))))
def hJ10_or (n : Nat) (p0 : Nat) (rp1 : Option Nat) (N : NW) (R : RW_) : OH Int :=
  ck (rAc (some p0) rp1 = true) (if (some p0) = rp1 then (some ((0, N, R), 0, 0)) else (ck (R.2.1 p0 = (12, 3)) (dr rp1 (fun ad3 => ck (R.2.1 ad3 = (12, 3)) (lt (fun (N5 : NW) (R6 : RW_) => (hJ10_or_l47 p0 ad3 (iMin (N p0 1) (N ad3 1)) (fun (N22 : NW) (R23 : RW_) => (ck (R23.2.1 ad3 = (12, 3)) (lt (fun (N28 : NW) (R29 : RW_) => (ck (R29.2.1 p0 = (12, 3)) (bh (hJ10_checkInvariants n p0 N28 R29) (fun r35 N36 R37 => some ((0, N36, R37), 0, 0))) : OH Int)) (fun (J30 : NW → RW_ → OH Int) => if (N22 ad3 1) ≤ (iMin (N p0 1) (N ad3 1)) then (J30 N22 R23) else (lt (R23.1 ad3 0) (fun (r44 : Option Nat) => ck (R23.2.1 p0 = (12, 3)) (lt (R23.1 p0 0) (fun (r46 : Option Nat) => dr r44 (fun ad47 => dr r46 (fun ad48 => ck (((R23.2.1 ad47).1 = 2 ∧ (R23.2.1 ad48).1 = 2 ∧ 512 ≤ ad48) ∧ 0 ≤ (iMin (N p0 1) (N ad3 1)) ∧ 0 ≤ (iMin (N p0 1) (N ad3 1)) ∧ 0 ≤ (w32 ((N22 p0 1) - (iMin (N p0 1) (N ad3 1)))) ∧ (iMin (N p0 1) (N ad3 1)) + (w32 ((N22 p0 1) - (iMin (N p0 1) (N ad3 1)))) ≤ (R23.2.1 ad47).2 ∧ (iMin (N p0 1) (N ad3 1)) + (w32 ((N22 p0 1) - (iMin (N p0 1) (N ad3 1)))) ≤ (R23.2.1 ad48).2) (lt (cpN N22 ad47 ad48 (iMin (N p0 1) (N ad3 1)) (iMin (N p0 1) (N ad3 1)) (w32 ((N22 p0 1) - (iMin (N p0 1) (N ad3 1))))) (fun (N50 : NW) => J30 N50 R23)))))))))) : OH Int)) n 0 N5 R6 : OH Int)) (fun (J7 : NW → RW_ → OH Int) => if (N ad3 1) ≤ (N p0 1) then (J7 N R) else (bh (hJ10_ensureCapacity n p0 (N ad3 1) N R) (fun r52 N53 R54 => ck (R54.2.1 ad3 = (12, 3)) (ck (R54.2.1 p0 = (12, 3)) (ck (512 ≤ p0) (lt (up2 N53 p0 1 (N53 ad3 1)) (fun (N64 : NW) => J7 N64 R54))))))))))))
def hJ10_set (n : Nat) (p0 : Nat) (a1 : Int) (N : NW) (R : RW_) : OH Int :=
  if 0 ≤ a1 then (bn (kJ10_wordIndex n a1 N) (fun r1 N2 => ck (R.2.1 p0 = (12, 3)) (bh (hJ10_expandTo n p0 r1 N2 R) (fun r5 N6 R7 => ck (R7.2.1 p0 = (12, 3)) (lt (R7.1 p0 0) (fun (r15 : Option Nat) => dr r15 (fun ad16 => ck ((R7.2.1 ad16).1 = 2 ∧ 0 ≤ r1 ∧ r1 < (R7.2.1 ad16).2) (ck (((R7.2.1 ad16).1 = 2 ∧ 512 ≤ ad16) ∧ 0 ≤ r1 ∧ r1 < (R7.2.1 ad16).2) (lt (up2 N6 ad16 r1 (lOr (N6 ad16 r1) (lShl 1 a1))) (fun (N19 : NW) => bh (hJ10_checkInvariants n p0 N19 R7) (fun r20 N21 R22 => some ((0, N21, R22), 0, 0)))))))))))) else (none)
def hJ11_isLatin1 (n : Nat) (p0 : Nat) (N : NW) (R : RW_) : OH Int :=
  ck (R.2.1 p0 = (13, 4)) (if (N p0 1) = 0 then (some ((1, N, R), 0, 0)) else (some ((0, N, R), 0, 0)))
def hJ13_checkIndex_s2 (n : Nat) (a0 : Int) (a1 : Int) (N : NW) (R : RW_) : OH Int :=
  lt (fun (N1 : NW) (R2 : RW_) => (none : OH Int)) (fun (J3 : NW → RW_ → OH Int) => if a0 < 0 then (J3 N R) else (if a0 < a1 then (some ((a0, N, R), 0, 0)) else (J3 N R)))
def hJ11_checkIndex (n : Nat) (a0 : Int) (a1 : Int) (N : NW) (R : RW_) : OH Int :=
  bh (hJ13_checkIndex_s2 n a0 a1 N R) (fun r1 N2 R3 => some ((0, N2, R3), 0, 0))
def hJ12_charAt (n : Nat) (rp0 : Option Nat) (a1 : Int) (N : NW) (R : RW_) : OH Int :=
  dr rp0 (fun ad1 => ck ((R.2.1 ad1).1 < 6 ∧ (R.2.1 ad1).2 < 2147483648) (bh (hJ11_checkIndex n a1 (((R.2.1 ad1).2 : Nat) : Int) N R) (fun r3 N4 R5 => ck ((R5.2.1 ad1).1 = 1 ∧ 0 ≤ a1 ∧ a1 < (R5.2.1 ad1).2) (ck ((0 : Int) ≤ (i2C (iAnd (N4 ad1 a1) 255)) ∧ (i2C (iAnd (N4 ad1 a1) 255)) < 65536) (some ((i2C (iAnd (N4 ad1 a1) 255), N4, R5), 0, 0))))))
def hJ11_charAt (n : Nat) (p0 : Nat) (a1 : Int) (N : NW) (R : RW_) : OH Int :=
  ck (R.2.1 p0 = (13, 4)) (bh (hJ11_isLatin1 n p0 N R) (fun r2 N3 R4 => if r2 = 0 then (ck (R4.2.1 p0 = (13, 4)) (lt (R4.1 p0 0) (fun (r12 : Option Nat) => none))) else (ck (R4.2.1 p0 = (13, 4)) (lt (R4.1 p0 0) (fun (r14 : Option Nat) => bh (hJ12_charAt n r14 a1 N3 R4) (fun r15 N16 R17 => ck ((0 : Int) ≤ r15 ∧ r15 < 65536) (some ((r15, N16, R17), 0, 0))))))))
def hJ11_coder (n : Nat) (p0 : Nat) (N : NW) (R : RW_) : OH Int :=
  ck (R.2.1 p0 = (13, 4)) (ck ((-128 : Int) ≤ (N p0 1) ∧ (N p0 1) < 128) (some ((N p0 1, N, R), 0, 0)))
def hJ12_equals_l9 (v0 : Nat) (v1 : Nat) (K : NW → RW_ → OH Int) : Nat → Int → NW → RW_ → OH Int
  | 0, _, _, _ => none
  | n + 1, v2, N, R => ck ((R.2.1 v0).1 < 6 ∧ (R.2.1 v0).2 < 2147483648) (if (((R.2.1 v0).2 : Nat) : Int) ≤ v2 then (K N R) else (ck ((R.2.1 v0).1 = 1 ∧ 0 ≤ v2 ∧ v2 < (R.2.1 v0).2) (ck ((R.2.1 v1).1 = 1 ∧ 0 ≤ v2 ∧ v2 < (R.2.1 v1).2) (if (N v0 v2) = (N v1 v2) then (hJ12_equals_l9 v0 v1 K n (w32 (v2 + 1)) N R) else (some ((0, N, R), 0, 0))))))
def hJ12_equals (n : Nat) (rp0 : Option Nat) (rp1 : Option Nat) (N : NW) (R : RW_) : OH Int :=
  dr rp0 (fun ad1 => ck ((R.2.1 ad1).1 < 6 ∧ (R.2.1 ad1).2 < 2147483648) (dr rp1 (fun ad3 => ck ((R.2.1 ad3).1 < 6 ∧ (R.2.1 ad3).2 < 2147483648) (if (((R.2.1 ad1).2 : Nat) : Int) = (((R.2.1 ad3).2 : Nat) : Int) then (hJ12_equals_l9 ad1 ad3 (fun (N10 : NW) (R11 : RW_) => (some ((1, N10, R11), 0, 0) : OH Int)) n 0 N R) else (some ((0, N, R), 0, 0))))))
def hJ11_equals (n : Nat) (p0 : Nat) (rp1 : Option Nat) (N : NW) (R : RW_) : OH Int :=
  ck (rAc (some p0) rp1 = true) (if (some p0) = rp1 then (some ((1, N, R), 0, 0)) else (dr rp1 (fun ad2 => ck (R.2.1 ad2 = (13, 4)) (ck (R.2.1 p0 = (13, 4)) (if (N p0 1) = (N ad2 1) then (lt (R.1 p0 0) (fun (r5 : Option Nat) => lt (R.1 ad2 0) (fun (r6 : Option Nat) => bh (hJ12_equals n r5 r6 N R) (fun r7 N8 R9 => if r7 = 0 then (some ((0, N8, R9), 0, 0)) else (some ((1, N8, R9), 0, 0)))))) else (some ((0, N, R), 0, 0)))))))
def hJ19_signedHashCode_l8 (v4 : Int) (K : Int → NW → RW_ → OH Int) : Nat → Int → Option Nat → Int → NW → RW_ → OH Int
  | 0, _, _, _, _, _ => none
  | n + 1, v0, v1, v5, N, R => if v4 ≤ v5 then (K v0 N R) else (dr v1 (fun ad1 => ck ((R.2.1 ad1).1 = 1 ∧ 0 ≤ v5 ∧ v5 < (R.2.1 ad1).2) (lt (w32 ((w32 (31 * v0)) + (iAnd (N ad1 v5) 255))) (fun x0_3 => hJ19_signedHashCode_l8 v4 K n x0_3 (some ad1) (w32 (v5 + 1)) N R))))
def hJ19_signedHashCode (n : Nat) (a0 : Int) (rp1 : Option Nat) (a2 : Int) (a3 : Int) (N : NW) (R : RW_) : OH Int :=
  hJ19_signedHashCode_l8 (w32 (a2 + a3)) (fun (x0_5 : Int) (N6 : NW) (R7 : RW_) => (some ((x0_5, N6, R7), 0, 0) : OH Int)) n a0 rp1 a2 N R
def hJ19_vectorizedHashCode (n : Nat) (rp0 : Option Nat) (a1 : Int) (a2 : Int) (a3 : Int) (a4 : Int) (N : NW) (R : RW_) : OH Int :=
  ck (a4 = 4) (dr rp0 (fun ad2 => ck ((R.2.1 ad2).1 = 1) (bh (hJ19_signedHashCode n a3 (some ad2) a1 a2 N R) (fun r4 N5 R6 => some ((r4, N5, R6), 0, 0)))))
def hJ12_hashCode (n : Nat) (rp0 : Option Nat) (N : NW) (R : RW_) : OH Int :=
  dr rp0 (fun ad1 => ck ((R.2.1 ad1).1 < 6 ∧ (R.2.1 ad1).2 < 2147483648) (if (((R.2.1 ad1).2 : Nat) : Int) = 0 then (some ((0, N, R), 0, 0)) else (if (((R.2.1 ad1).2 : Nat) : Int) = 1 then (ck ((R.2.1 ad1).1 = 1 ∧ 0 ≤ (0 : Int) ∧ (0 : Int) < (R.2.1 ad1).2) (some ((iAnd (N ad1 0) 255, N, R), 0, 0))) else (ck ((R.2.1 ad1).1 < 6 ∧ (R.2.1 ad1).2 < 2147483648) (bh (hJ19_vectorizedHashCode n (some ad1) 0 (((R.2.1 ad1).2 : Nat) : Int) 0 4 N R) (fun r7 N8 R9 => some ((r7, N8, R9), 0, 0)))))))
def hJ11_hashCode (n : Nat) (p0 : Nat) (N : NW) (R : RW_) : OH Int :=
  ck (R.2.1 p0 = (13, 4)) (if (N p0 2) = 0 then (if (N p0 3) = 0 then (bh (hJ11_isLatin1 n p0 N R) (fun r2 N3 R4 => lt (fun (s11 : Int) (N12 : NW) (R13 : RW_) => (if s11 = 0 then (ck (R13.2.1 p0 = (13, 4)) (ck (512 ≤ p0) (lt (up2 N12 p0 3 1) (fun (N23 : NW) => some ((s11, N23, R13), 0, 0))))) else (ck (R13.2.1 p0 = (13, 4)) (ck (512 ≤ p0) (lt (up2 N12 p0 2 s11) (fun (N20 : NW) => some ((s11, N20, R13), 0, 0))))) : OH Int)) (fun (J14 : Int → NW → RW_ → OH Int) => if r2 = 0 then (ck (R4.2.1 p0 = (13, 4)) (lt (R4.1 p0 0) (fun (r26 : Option Nat) => none))) else (ck (R4.2.1 p0 = (13, 4)) (lt (R4.1 p0 0) (fun (r28 : Option Nat) => bh (hJ12_hashCode n r28 N3 R4) (fun r29 N30 R31 => J14 r29 N30 R31))))))) else (some ((N p0 2, N, R), 0, 0))) else (some ((N p0 2, N, R), 0, 0)))
def hJ11_length (n : Nat) (p0 : Nat) (N : NW) (R : RW_) : OH Int :=
  ck (R.2.1 p0 = (13, 4)) (lt (R.1 p0 0) (fun (r2 : Option Nat) => dr r2 (fun ad3 => ck ((R.2.1 ad3).1 < 6 ∧ (R.2.1 ad3).2 < 2147483648) (bh (hJ11_coder n p0 N R) (fun r5 N6 R7 => some ((iShr (((R.2.1 ad3).2 : Nat) : Int) r5, N6, R7), 0, 0))))))
def hJ12_canEncode (n : Nat) (a0 : Int) (N : NW) (R : RW_) : OH Int :=
  if a0 < 0 then (some ((0, N, R), 0, 0)) else (if 255 < a0 then (some ((0, N, R), 0, 0)) else (some ((1, N, R), 0, 0)))
end

section
set_option maxRecDepth 100000
def ilJ12_indexOfChar : IL := [(0, 1, 1, .iload_n 1), (1, 2, 1, .i2b), (2, 4, 2, .istore 4), (4, 5, 1, .iload_n 2), (5, 7, 2, .istore 5), (7, 9, 2, .iload 5), (9, 10, 1, .iload_n 3), (10, 13, 3, .if_icmp .ge 21), (13, 14, 1, .aload_n 0), (14, 16, 2, .iload 5), (16, 17, 1, .baload), (17, 19, 2, .iload 4), (19, 22, 3, .if_icmp .ne 6), (22, 24, 2, .iload 5), (24, 25, 1, .ireturn), (25, 28, 3, .iinc 5 1), (28, 31, 3, .goto (-21)), (31, 32, 1, .iconst (-1)), (32, 33, 1, .ireturn)]
def ilJ12_indexOf : IL := [(0, 1, 1, .iload_n 1), (1, 4, 3, .invokestatic 88), (4, 7, 3, .ifCond .ne 5), (7, 8, 1, .iconst (-1)), (8, 9, 1, .ireturn), (9, 10, 1, .iload_n 2), (10, 11, 1, .iconst 0), (11, 14, 3, .invokestatic 92), (14, 15, 1, .istore_n 2), (15, 16, 1, .iload_n 3), (16, 17, 1, .aload_n 0), (17, 18, 1, .arraylength), (18, 21, 3, .invokestatic 38), (21, 22, 1, .istore_n 3), (22, 23, 1, .iload_n 2), (23, 24, 1, .iload_n 3), (24, 27, 3, .if_icmp .lt 5), (27, 28, 1, .iconst (-1)), (28, 29, 1, .ireturn), (29, 30, 1, .aload_n 0), (30, 31, 1, .iload_n 1), (31, 32, 1, .iload_n 2), (32, 33, 1, .iload_n 3), (33, 36, 3, .invokestatic 95), (36, 37, 1, .ireturn)]
def ilJ11_indexOf_2 : IL := [(0, 1, 1, .aload_n 0), (1, 4, 3, .invokevirtual 492), (4, 7, 3, .ifCond .eq 19), (7, 8, 1, .aload_n 0), (8, 11, 3, .getfield 9), (11, 12, 1, .iload_n 1), (12, 13, 1, .iload_n 2), (13, 14, 1, .aload_n 0), (14, 17, 3, .invokevirtual 505), (17, 20, 3, .invokestatic 637), (20, 23, 3, .goto 16), (23, 24, 1, .aload_n 0), (24, 27, 3, .getfield 9), (27, 28, 1, .iload_n 1), (28, 29, 1, .iload_n 2), (29, 30, 1, .aload_n 0), (30, 33, 3, .invokevirtual 505), (33, 36, 3, .invokestatic 640), (36, 37, 1, .ireturn)]
def ilJ11_indexOf : IL := [(0, 1, 1, .aload_n 0), (1, 2, 1, .iload_n 1), (2, 3, 1, .iconst 0), (3, 6, 3, .invokevirtual 633), (6, 7, 1, .ireturn)]
def ilJ17_getValue : IL := [(0, 1, 1, .aload_n 0), (1, 4, 3, .getfield 15), (4, 5, 1, .areturn)]
def ilJ17_isLatin1 : IL := [(0, 3, 3, .getstatic 18), (3, 6, 3, .ifCond .eq 14), (6, 7, 1, .aload_n 0), (7, 10, 3, .getfield 22), (10, 13, 3, .ifCond .ne 7), (13, 14, 1, .iconst 1), (14, 17, 3, .goto 4), (17, 18, 1, .iconst 0), (18, 19, 1, .ireturn)]
def ilJ17_length : IL := [(0, 1, 1, .aload_n 0), (1, 4, 3, .getfield 79), (4, 5, 1, .ireturn)]
def ilJ18_length : IL := [(0, 1, 1, .aload_n 0), (1, 4, 3, .invokespecial 343), (4, 5, 1, .ireturn)]
def ilJ9_checkLength : IL := [(0, 1, 1, .iload_n 1), (1, 2, 1, .iload_n 0), (2, 5, 3, .if_icmp .ge 35), (5, 8, 3, .new 43), (8, 9, 1, .dup), (9, 12, 3, .new 45), (12, 13, 1, .dup), (13, 16, 3, .invokespecial 47), (16, 17, 1, .iload_n 0), (17, 20, 3, .invokevirtual 54), (20, 23, 3, .ldc_w 337), (23, 26, 3, .invokevirtual 50), (26, 27, 1, .iload_n 1), (27, 30, 3, .invokevirtual 54), (30, 33, 3, .invokevirtual 61), (33, 36, 3, .invokespecial 65), (36, 37, 1, .athrow), (37, 38, 1, .return_)]
def ilJ9_copyOfRangeByte : IL := [(0, 1, 1, .iload_n 1), (1, 2, 1, .iload_n 2), (2, 5, 3, .invokestatic 343), (5, 6, 1, .iload_n 2), (6, 7, 1, .iload_n 1), (7, 8, 1, .isub), (8, 9, 1, .istore_n 3), (9, 10, 1, .iload_n 3), (10, 12, 2, .newarray .byte), (12, 14, 2, .astore 4), (14, 15, 1, .aload_n 0), (15, 16, 1, .iload_n 1), (16, 18, 2, .aload 4), (18, 19, 1, .iconst 0), (19, 20, 1, .aload_n 0), (20, 21, 1, .arraylength), (21, 22, 1, .iload_n 1), (22, 23, 1, .isub), (23, 24, 1, .iload_n 3), (24, 27, 3, .invokestatic 304), (27, 30, 3, .invokestatic 150), (30, 32, 2, .aload 4), (32, 33, 1, .areturn)]
def ilJ9_copyOfRange : IL := [(0, 1, 1, .iload_n 1), (1, 4, 3, .ifCond .ne 9), (4, 5, 1, .iload_n 2), (5, 6, 1, .aload_n 0), (6, 7, 1, .arraylength), (7, 10, 3, .if_icmp .eq 10), (10, 11, 1, .aload_n 0), (11, 12, 1, .iload_n 1), (12, 13, 1, .iload_n 2), (13, 16, 3, .invokestatic 339), (16, 17, 1, .areturn), (17, 18, 1, .aload_n 0), (18, 21, 3, .invokevirtual 310), (21, 24, 3, .checkcast 311), (24, 25, 1, .areturn)]
def ilJ11_init_2 : IL := [(0, 1, 1, .aload_n 0), (1, 4, 3, .invokespecial 1), (4, 5, 1, .aload_n 1), (5, 8, 3, .invokevirtual 552), (8, 9, 1, .astore_n 3), (9, 10, 1, .aload_n 1), (10, 13, 3, .invokevirtual 549), (13, 15, 2, .istore 4), (15, 16, 1, .aload_n 1), (16, 19, 3, .invokevirtual 1047), (19, 22, 3, .ifCond .eq 22), (22, 23, 1, .aload_n 0), (23, 24, 1, .iconst 0), (24, 27, 3, .putfield 15), (27, 28, 1, .aload_n 0), (28, 29, 1, .aload_n 3), (29, 30, 1, .iconst 0), (30, 32, 2, .iload 4), (32, 35, 3, .invokestatic 54), (35, 38, 3, .putfield 9), (38, 41, 3, .goto 59), (41, 44, 3, .getstatic 38), (44, 47, 3, .ifCond .eq 35), (47, 48, 1, .aload_n 1), (48, 51, 3, .getfield 1048), (51, 54, 3, .ifCond .eq 28), (54, 55, 1, .aload_n 0), (55, 56, 1, .aload_n 3), (56, 57, 1, .iconst 0), (57, 59, 2, .iload 4), (59, 62, 3, .invokestatic 1051), (62, 65, 3, .putfield 9), (65, 66, 1, .aload_n 0), (66, 67, 1, .aload_n 0), (67, 70, 3, .getfield 9), (70, 72, 2, .iload 4), (72, 75, 3, .invokestatic 47), (75, 78, 3, .putfield 15), (78, 79, 1, .return_), (79, 80, 1, .aload_n 0), (80, 81, 1, .iconst 1), (81, 84, 3, .putfield 15), (84, 85, 1, .aload_n 0), (85, 86, 1, .aload_n 3), (86, 87, 1, .iconst 0), (87, 89, 2, .iload 4), (89, 90, 1, .iconst 1), (90, 91, 1, .ishl), (91, 94, 3, .invokestatic 54), (94, 97, 3, .putfield 9), (97, 98, 1, .return_)]
def ilJ11_init : IL := [(0, 1, 1, .aload_n 0), (1, 2, 1, .aload_n 1), (2, 3, 1, .aconst_null), (3, 6, 3, .invokespecial 489), (6, 7, 1, .return_)]
def ilJ12_canEncode_2 : IL := [(0, 1, 1, .iload_n 0), (1, 4, 3, .sipush 255), (4, 7, 3, .if_icmp .gt 7), (7, 8, 1, .iconst 1), (8, 11, 3, .goto 4), (11, 12, 1, .iconst 0), (12, 13, 1, .ireturn)]
def ilJ19_hugeLength : IL := [(0, 1, 1, .iload_n 0), (1, 2, 1, .iload_n 1), (2, 3, 1, .iadd), (3, 4, 1, .istore_n 2), (4, 5, 1, .iload_n 2), (5, 8, 3, .ifCond .ge 44), (8, 11, 3, .new 204), (11, 12, 1, .dup), (12, 15, 3, .new 89), (15, 16, 1, .dup), (16, 19, 3, .invokespecial 91), (19, 21, 2, .ldc 206), (21, 24, 3, .invokevirtual 94), (24, 25, 1, .iload_n 0), (25, 28, 3, .invokevirtual 98), (28, 30, 2, .ldc 208), (30, 33, 3, .invokevirtual 94), (33, 34, 1, .iload_n 1), (34, 37, 3, .invokevirtual 98), (37, 39, 2, .ldc 210), (39, 42, 3, .invokevirtual 94), (42, 45, 3, .invokevirtual 101), (45, 48, 3, .invokespecial 212), (48, 49, 1, .athrow), (49, 50, 1, .iload_n 2), (50, 52, 2, .ldc 200), (52, 55, 3, .if_icmp .gt 6), (55, 57, 2, .ldc 200), (57, 58, 1, .ireturn), (58, 59, 1, .iload_n 2), (59, 60, 1, .ireturn)]
def ilJ19_newLength : IL := [(0, 1, 1, .iload_n 0), (1, 2, 1, .iload_n 1), (2, 3, 1, .iload_n 2), (3, 6, 3, .invokestatic 194), (6, 7, 1, .iadd), (7, 8, 1, .istore_n 3), (8, 9, 1, .iconst 0), (9, 10, 1, .iload_n 3), (10, 13, 3, .if_icmp .ge 11), (13, 14, 1, .iload_n 3), (14, 16, 2, .ldc 200), (16, 19, 3, .if_icmp .gt 5), (19, 20, 1, .iload_n 3), (20, 21, 1, .ireturn), (21, 22, 1, .iload_n 0), (22, 23, 1, .iload_n 1), (23, 26, 3, .invokestatic 201), (26, 27, 1, .ireturn)]
def ilJ17_newCapacity : IL := [(0, 1, 1, .aload_n 0), (1, 4, 3, .getfield 15), (4, 5, 1, .arraylength), (5, 6, 1, .istore_n 2), (6, 7, 1, .iload_n 1), (7, 8, 1, .aload_n 0), (8, 11, 3, .getfield 22), (11, 12, 1, .ishl), (12, 13, 1, .istore_n 3), (13, 14, 1, .iload_n 3), (14, 15, 1, .iload_n 2), (15, 16, 1, .isub), (16, 18, 2, .istore 4), (18, 19, 1, .iload_n 2), (19, 21, 2, .iload 4), (21, 22, 1, .iload_n 2), (22, 23, 1, .iconst 2), (23, 24, 1, .aload_n 0), (24, 27, 3, .getfield 22), (27, 28, 1, .ishl), (28, 29, 1, .iadd), (29, 32, 3, .invokestatic 114), (32, 34, 2, .istore 5), (34, 36, 2, .iload 5), (36, 38, 2, .ldc 39), (38, 41, 3, .if_icmp .ne 13), (41, 44, 3, .new 120), (44, 45, 1, .dup), (45, 47, 2, .ldc 122), (47, 50, 3, .invokespecial 124), (50, 51, 1, .athrow), (51, 53, 2, .iload 5), (53, 54, 1, .aload_n 0), (54, 57, 3, .getfield 22), (57, 58, 1, .ishr), (58, 59, 1, .ireturn)]
def ilJ9_copyOf : IL := [(0, 1, 1, .iload_n 1), (1, 2, 1, .aload_n 0), (2, 3, 1, .arraylength), (3, 6, 3, .if_icmp .ne 11), (6, 7, 1, .aload_n 0), (7, 10, 3, .invokevirtual 310), (10, 13, 3, .checkcast 311), (13, 14, 1, .areturn), (14, 15, 1, .iload_n 1), (15, 17, 2, .newarray .byte), (17, 18, 1, .astore_n 2), (18, 19, 1, .aload_n 0), (19, 20, 1, .iconst 0), (20, 21, 1, .aload_n 2), (21, 22, 1, .iconst 0), (22, 23, 1, .aload_n 0), (23, 24, 1, .arraylength), (24, 25, 1, .iload_n 1), (25, 28, 3, .invokestatic 304), (28, 31, 3, .invokestatic 150), (31, 32, 1, .aload_n 2), (32, 33, 1, .areturn)]
def ilJ17_ensureCapacityInternal : IL := [(0, 1, 1, .aload_n 0), (1, 4, 3, .getfield 15), (4, 5, 1, .arraylength), (5, 6, 1, .aload_n 0), (6, 9, 3, .getfield 22), (9, 10, 1, .ishr), (10, 11, 1, .istore_n 2), (11, 12, 1, .iload_n 1), (12, 13, 1, .iload_n 2), (13, 14, 1, .isub), (14, 17, 3, .ifCond .le 24), (17, 18, 1, .aload_n 0), (18, 19, 1, .aload_n 0), (19, 22, 3, .getfield 15), (22, 23, 1, .aload_n 0), (23, 24, 1, .iload_n 1), (24, 27, 3, .invokevirtual 104), (27, 28, 1, .aload_n 0), (28, 31, 3, .getfield 22), (31, 32, 1, .ishl), (32, 35, 3, .invokestatic 108), (35, 38, 3, .putfield 15), (38, 39, 1, .return_)]
def ilJ17_inflate : IL := [(0, 1, 1, .aload_n 0), (1, 4, 3, .invokevirtual 83), (4, 7, 3, .ifCond .ne 4), (7, 8, 1, .return_), (8, 9, 1, .aload_n 0), (9, 12, 3, .getfield 15), (12, 13, 1, .arraylength), (13, 16, 3, .invokestatic 26), (16, 17, 1, .astore_n 1), (17, 18, 1, .aload_n 0), (18, 21, 3, .getfield 15), (21, 22, 1, .iconst 0), (22, 23, 1, .aload_n 1), (23, 24, 1, .iconst 0), (24, 25, 1, .aload_n 0), (25, 28, 3, .getfield 79), (28, 31, 3, .invokestatic 125), (31, 32, 1, .aload_n 0), (32, 33, 1, .aload_n 1), (33, 36, 3, .putfield 15), (36, 37, 1, .aload_n 0), (37, 38, 1, .iconst 1), (38, 41, 3, .putfield 22), (41, 42, 1, .return_)]
def ilJ17_append : IL := [(0, 1, 1, .aload_n 0), (1, 2, 1, .aload_n 0), (2, 5, 3, .getfield 79), (5, 6, 1, .iconst 1), (6, 7, 1, .iadd), (7, 10, 3, .invokevirtual 100), (10, 11, 1, .aload_n 0), (11, 14, 3, .invokevirtual 83), (14, 17, 3, .ifCond .eq 31), (17, 18, 1, .iload_n 1), (18, 21, 3, .invokestatic 191), (21, 24, 3, .ifCond .eq 24), (24, 25, 1, .aload_n 0), (25, 28, 3, .getfield 15), (28, 29, 1, .aload_n 0), (29, 30, 1, .dup), (30, 33, 3, .getfield 79), (33, 34, 1, .dup_x1), (34, 35, 1, .iconst 1), (35, 36, 1, .iadd), (36, 39, 3, .putfield 79), (39, 40, 1, .iload_n 1), (40, 41, 1, .i2b), (41, 42, 1, .bastore), (42, 45, 3, .goto 33), (45, 46, 1, .aload_n 0), (46, 49, 3, .invokevirtual 83), (49, 52, 3, .ifCond .eq 7), (52, 53, 1, .aload_n 0), (53, 56, 3, .invokevirtual 195), (56, 57, 1, .aload_n 0), (57, 60, 3, .getfield 15), (60, 61, 1, .aload_n 0), (61, 62, 1, .dup), (62, 65, 3, .getfield 79), (65, 66, 1, .dup_x1), (66, 67, 1, .iconst 1), (67, 68, 1, .iadd), (68, 71, 3, .putfield 79), (71, 72, 1, .iload_n 1), (72, 75, 3, .invokestatic 197), (75, 76, 1, .aload_n 0), (76, 77, 1, .areturn)]
def ilJ17_init : IL := [(0, 1, 1, .aload_n 0), (1, 4, 3, .invokespecial 3), (4, 7, 3, .getstatic 18), (7, 10, 3, .ifCond .eq 18), (10, 11, 1, .aload_n 0), (11, 12, 1, .iload_n 1), (12, 14, 2, .newarray .byte), (14, 17, 3, .putfield 15), (17, 18, 1, .aload_n 0), (18, 19, 1, .iconst 0), (19, 22, 3, .putfield 22), (22, 25, 3, .goto 16), (25, 26, 1, .aload_n 0), (26, 27, 1, .iload_n 1), (27, 30, 3, .invokestatic 26), (30, 33, 3, .putfield 15), (33, 34, 1, .aload_n 0), (34, 35, 1, .iconst 1), (35, 38, 3, .putfield 22), (38, 39, 1, .return_)]
def ilJ18_append : IL := [(0, 1, 1, .aload_n 0), (1, 2, 1, .iload_n 1), (2, 5, 3, .invokespecial 50), (5, 6, 1, .pop), (6, 7, 1, .aload_n 0), (7, 8, 1, .areturn)]
def ilJ18_init : IL := [(0, 1, 1, .aload_n 0), (1, 2, 1, .iload_n 1), (2, 5, 3, .invokespecial 1), (5, 6, 1, .return_)]
def ilJ18_toString : IL := [(0, 3, 3, .new 18), (3, 4, 1, .dup), (4, 5, 1, .aload_n 0), (5, 8, 3, .invokespecial 137), (8, 9, 1, .areturn)]
def ilJ20_init : IL := [(0, 1, 1, .aload_n 0), (1, 4, 3, .invokespecial 1), (4, 5, 1, .return_)]
def ilJ21_init : IL := [(0, 1, 1, .aload_n 0), (1, 4, 3, .invokespecial 202), (4, 5, 1, .aload_n 0), (5, 6, 1, .iload_n 1), (6, 9, 3, .putfield 205), (9, 10, 1, .return_)]
def ilJ21_intValue : IL := [(0, 1, 1, .aload_n 0), (1, 4, 3, .getfield 205), (4, 5, 1, .ireturn)]
def ilJ21_valueOf : IL := [(0, 1, 1, .iload_n 0), (1, 3, 2, .bipush (-128)), (3, 6, 3, .if_icmp .lt 20), (6, 7, 1, .iload_n 0), (7, 10, 3, .getstatic 191), (10, 13, 3, .if_icmp .gt 13), (13, 16, 3, .getstatic 195), (16, 17, 1, .iload_n 0), (17, 20, 3, .sipush 128), (20, 21, 1, .iadd), (21, 22, 1, .aaload), (22, 23, 1, .areturn), (23, 26, 3, .new 1), (26, 27, 1, .dup), (27, 28, 1, .iload_n 0), (28, 31, 3, .invokespecial 199), (31, 32, 1, .areturn)]
def ilJ27_checkIndex : IL := [(0, 1, 1, .iload_n 0), (1, 2, 1, .iload_n 1), (2, 3, 1, .aconst_null), (3, 6, 3, .invokestatic 105), (6, 7, 1, .ireturn)]
def ilJ9_copyOf_3 : IL := [(0, 1, 1, .aload_n 2), (1, 3, 2, .ldc 110), (3, 6, 3, .if_acmp .ne 10), (6, 7, 1, .iload_n 1), (7, 10, 3, .anewarray 2), (10, 13, 3, .goto 14), (13, 14, 1, .aload_n 2), (14, 17, 3, .invokevirtual 90), (17, 18, 1, .iload_n 1), (18, 21, 3, .invokestatic 95), (21, 24, 3, .checkcast 110), (24, 25, 1, .astore_n 3), (25, 26, 1, .aload_n 0), (26, 27, 1, .iconst 0), (27, 28, 1, .aload_n 3), (28, 29, 1, .iconst 0), (29, 30, 1, .aload_n 0), (30, 31, 1, .arraylength), (31, 32, 1, .iload_n 1), (32, 35, 3, .invokestatic 304), (35, 38, 3, .invokestatic 150), (38, 39, 1, .aload_n 3), (39, 40, 1, .areturn)]
def ilJ9_copyOf_2 : IL := [(0, 1, 1, .aload_n 0), (1, 2, 1, .iload_n 1), (2, 3, 1, .aload_n 0), (3, 6, 3, .invokevirtual 86), (6, 9, 3, .invokestatic 300), (9, 10, 1, .areturn)]
def ilJ7_grow_2 : IL := [(0, 1, 1, .aload_n 0), (1, 4, 3, .getfield 9), (4, 5, 1, .arraylength), (5, 6, 1, .istore_n 2), (6, 7, 1, .iload_n 2), (7, 10, 3, .ifCond .gt 13), (10, 11, 1, .aload_n 0), (11, 14, 3, .getfield 9), (14, 17, 3, .getstatic 39), (17, 20, 3, .if_acmp .eq 28), (20, 21, 1, .iload_n 2), (21, 22, 1, .iload_n 1), (22, 23, 1, .iload_n 2), (23, 24, 1, .isub), (24, 25, 1, .iload_n 2), (25, 26, 1, .iconst 1), (26, 27, 1, .ishr), (27, 30, 3, .invokestatic 73), (30, 31, 1, .istore_n 3), (31, 32, 1, .aload_n 0), (32, 33, 1, .aload_n 0), (33, 36, 3, .getfield 9), (36, 37, 1, .iload_n 3), (37, 40, 3, .invokestatic 66), (40, 41, 1, .dup_x1), (41, 44, 3, .putfield 9), (44, 45, 1, .areturn), (45, 46, 1, .aload_n 0), (46, 48, 2, .bipush 10), (48, 49, 1, .iload_n 1), (49, 52, 3, .invokestatic 79), (52, 55, 3, .anewarray 7), (55, 56, 1, .dup_x1), (56, 59, 3, .putfield 9), (59, 60, 1, .areturn)]
def ilJ7_grow : IL := [(0, 1, 1, .aload_n 0), (1, 2, 1, .aload_n 0), (2, 5, 3, .getfield 48), (5, 6, 1, .iconst 1), (6, 7, 1, .iadd), (7, 10, 3, .invokevirtual 69), (10, 11, 1, .areturn)]
def ilJ7_add_2 : IL := [(0, 1, 1, .iload_n 3), (1, 2, 1, .aload_n 2), (2, 3, 1, .arraylength), (3, 6, 3, .if_icmp .ne 8), (6, 7, 1, .aload_n 0), (7, 10, 3, .invokevirtual 129), (10, 11, 1, .astore_n 2), (11, 12, 1, .aload_n 2), (12, 13, 1, .iload_n 3), (13, 14, 1, .aload_n 1), (14, 15, 1, .aastore), (15, 16, 1, .aload_n 0), (16, 17, 1, .iload_n 3), (17, 18, 1, .iconst 1), (18, 19, 1, .iadd), (19, 22, 3, .putfield 48), (22, 23, 1, .return_)]
def ilJ7_add : IL := [(0, 1, 1, .aload_n 0), (1, 2, 1, .dup), (2, 5, 3, .getfield 63), (5, 6, 1, .iconst 1), (6, 7, 1, .iadd), (7, 10, 3, .putfield 63), (10, 11, 1, .aload_n 0), (11, 12, 1, .aload_n 1), (12, 13, 1, .aload_n 0), (13, 16, 3, .getfield 9), (16, 17, 1, .aload_n 0), (17, 20, 3, .getfield 48), (20, 23, 3, .invokevirtual 131), (23, 24, 1, .iconst 1), (24, 25, 1, .ireturn)]
def ilJ7_elementData : IL := [(0, 1, 1, .aload_n 0), (1, 4, 3, .getfield 9), (4, 5, 1, .iload_n 1), (5, 6, 1, .aaload), (6, 7, 1, .areturn)]
def ilJ7_fastRemove : IL := [(0, 1, 1, .aload_n 0), (1, 2, 1, .dup), (2, 5, 3, .getfield 63), (5, 6, 1, .iconst 1), (6, 7, 1, .iadd), (7, 10, 3, .putfield 63), (10, 11, 1, .aload_n 0), (11, 14, 3, .getfield 48), (14, 15, 1, .iconst 1), (15, 16, 1, .isub), (16, 17, 1, .dup), (17, 18, 1, .istore_n 3), (18, 19, 1, .iload_n 2), (19, 22, 3, .if_icmp .le 15), (22, 23, 1, .aload_n 1), (23, 24, 1, .iload_n 2), (24, 25, 1, .iconst 1), (25, 26, 1, .iadd), (26, 27, 1, .aload_n 1), (27, 28, 1, .iload_n 2), (28, 29, 1, .iload_n 3), (29, 30, 1, .iload_n 2), (30, 31, 1, .isub), (31, 34, 3, .invokestatic 112), (34, 35, 1, .aload_n 1), (35, 36, 1, .aload_n 0), (36, 37, 1, .iload_n 3), (37, 38, 1, .dup_x1), (38, 41, 3, .putfield 48), (41, 42, 1, .aconst_null), (42, 43, 1, .aastore), (43, 44, 1, .return_)]
def ilJ7_get : IL := [(0, 1, 1, .iload_n 1), (1, 2, 1, .aload_n 0), (2, 5, 3, .getfield 48), (5, 8, 3, .invokestatic 118), (8, 9, 1, .pop), (9, 10, 1, .aload_n 0), (10, 11, 1, .iload_n 1), (11, 14, 3, .invokevirtual 123), (14, 15, 1, .areturn)]
def ilJ7_remove : IL := [(0, 1, 1, .iload_n 1), (1, 2, 1, .aload_n 0), (2, 5, 3, .getfield 48), (5, 8, 3, .invokestatic 118), (8, 9, 1, .pop), (9, 10, 1, .aload_n 0), (10, 13, 3, .getfield 9), (13, 14, 1, .astore_n 2), (14, 15, 1, .aload_n 2), (15, 16, 1, .iload_n 1), (16, 17, 1, .aaload), (17, 18, 1, .astore_n 3), (18, 19, 1, .aload_n 0), (19, 20, 1, .aload_n 2), (20, 21, 1, .iload_n 1), (21, 24, 3, .invokevirtual 144), (24, 25, 1, .aload_n 3), (25, 26, 1, .areturn)]
def ilJ7_set : IL := [(0, 1, 1, .iload_n 1), (1, 2, 1, .aload_n 0), (2, 5, 3, .getfield 48), (5, 8, 3, .invokestatic 118), (8, 9, 1, .pop), (9, 10, 1, .aload_n 0), (10, 11, 1, .iload_n 1), (11, 14, 3, .invokevirtual 123), (14, 15, 1, .astore_n 3), (15, 16, 1, .aload_n 0), (16, 19, 3, .getfield 9), (19, 20, 1, .iload_n 1), (20, 21, 1, .aload_n 2), (21, 22, 1, .aastore), (22, 23, 1, .aload_n 3), (23, 24, 1, .areturn)]
def ilJ8_dec : IL := [(0, 3, 3, .iinc 0 (-1)), (3, 4, 1, .iload_n 0), (4, 7, 3, .ifCond .ge 7), (7, 8, 1, .iload_n 1), (8, 9, 1, .iconst 1), (9, 10, 1, .isub), (10, 11, 1, .istore_n 0), (11, 12, 1, .iload_n 0), (12, 13, 1, .ireturn)]
def hJ12_indexOfChar_l7 (v3 : Int) (v4 : Int) (K : NW → RW_ → OH Int) : Nat → Option Nat → Int → NW → RW_ → OH Int
  | 0, _, _, _, _ => none
  | n + 1, v0, v5, N, R => if v3 ≤ v5 then (K N R) else (dr v0 (fun ad1 => ck ((R.2.1 ad1).1 = 1 ∧ 0 ≤ v5 ∧ v5 < (R.2.1 ad1).2) (if (N ad1 v5) = v4 then (some ((v5, N, R), 0, 0)) else (hJ12_indexOfChar_l7 v3 v4 K n (some ad1) (w32 (v5 + 1)) N R))))
def hJ12_indexOfChar (n : Nat) (rp0 : Option Nat) (a1 : Int) (a2 : Int) (a3 : Int) (N : NW) (R : RW_) : OH Int :=
  hJ12_indexOfChar_l7 a3 (i2B a1) (fun (N5 : NW) (R6 : RW_) => (some (((-1), N5, R6), 0, 0) : OH Int)) n rp0 a2 N R
def hJ12_indexOf (n : Nat) (rp0 : Option Nat) (a1 : Int) (a2 : Int) (a3 : Int) (N : NW) (R : RW_) : OH Int :=
  bh (hJ12_canEncode n a1 N R) (fun r1 N2 R3 => if r1 = 0 then (some (((-1), N2, R3), 0, 0)) else (dr rp0 (fun ad10 => ck ((R3.2.1 ad10).1 < 6 ∧ (R3.2.1 ad10).2 < 2147483648) (lt (iMin a3 (((R3.2.1 ad10).2 : Nat) : Int)) (fun x3_12 => if (iMax a2 0) < x3_12 then (bh (hJ12_indexOfChar n (some ad10) a1 (iMax a2 0) x3_12 N2 R3) (fun r13 N14 R15 => some ((r13, N14, R15), 0, 0))) else (some (((-1), N2, R3), 0, 0)))))))
def hJ11_indexOf_2 (n : Nat) (p0 : Nat) (a1 : Int) (a2 : Int) (N : NW) (R : RW_) : OH Int :=
  ck (R.2.1 p0 = (13, 4)) (bh (hJ11_isLatin1 n p0 N R) (fun r2 N3 R4 => if r2 = 0 then (ck (R4.2.1 p0 = (13, 4)) (lt (R4.1 p0 0) (fun (r12 : Option Nat) => bh (hJ11_length n p0 N3 R4) (fun r13 N14 R15 => none)))) else (ck (R4.2.1 p0 = (13, 4)) (lt (R4.1 p0 0) (fun (r23 : Option Nat) => bh (hJ11_length n p0 N3 R4) (fun r24 N25 R26 => bh (hJ12_indexOf n r23 a1 a2 r24 N25 R26) (fun r33 N34 R35 => some ((r33, N34, R35), 0, 0))))))))
def hJ11_indexOf (n : Nat) (p0 : Nat) (a1 : Int) (N : NW) (R : RW_) : OH Int :=
  ck (R.2.1 p0 = (13, 4)) (bh (hJ11_indexOf_2 n p0 a1 0 N R) (fun r2 N3 R4 => some ((r2, N3, R4), 0, 0)))
def hJ17_getValue (n : Nat) (p0 : Nat) (N : NW) (R : RW_) : OH (Option Nat) :=
  ck (R.2.1 p0 = (14, 4)) (lt (R.1 p0 0) (fun (r2 : Option Nat) => some ((r2, N, R), 0, 0)))
def hJ17_isLatin1 (n : Nat) (p0 : Nat) (N : NW) (R : RW_) : OH Int :=
  ck (R.2.1 p0 = (14, 4)) (if (N p0 1) = 0 then (some ((1, N, R), 0, 0)) else (some ((0, N, R), 0, 0)))
def hJ17_length (n : Nat) (p0 : Nat) (N : NW) (R : RW_) : OH Int :=
  ck (R.2.1 p0 = (14, 4)) (some ((N p0 3, N, R), 0, 0))
def hJ18_length (n : Nat) (p0 : Nat) (N : NW) (R : RW_) : OH Int :=
  ck (R.2.1 p0 = (14, 4)) (bh (hJ17_length n p0 N R) (fun r2 N3 R4 => some ((r2, N3, R4), 0, 0)))
def hJ9_checkLength (n : Nat) (a0 : Int) (a1 : Int) (N : NW) (R : RW_) : OH Int :=
  if a0 ≤ a1 then (some ((0, N, R), 0, 0)) else (none)
def hJ9_copyOfRangeByte (n : Nat) (rp0 : Option Nat) (a1 : Int) (a2 : Int) (N : NW) (R : RW_) : OH (Option Nat) :=
  bh (hJ9_checkLength n a1 a2 N R) (fun r1 N2 R3 => ck (0 ≤ (w32 (a2 - a1)) ∧ (w32 (a2 - a1)) ≤ 60000000) (lt ((w32 (a2 - a1))).toNat (fun (m11 : Nat) => al m11 (lt R3.2.2 (fun (ad12 : Nat) => lt (nN N2 R3) (fun (N15 : NW) => lt (nR R3 1 m11) (fun (R16 : RW_) => dr rp0 (fun ad18 => ck ((R16.2.1 ad18).1 < 6 ∧ (R16.2.1 ad18).2 < 2147483648) (ck (((R16.2.1 ad18).1 = 1 ∧ (R16.2.1 ad12).1 = 1 ∧ 512 ≤ ad12) ∧ 0 ≤ a1 ∧ 0 ≤ (0 : Int) ∧ 0 ≤ (iMin (w32 ((((R16.2.1 ad18).2 : Nat) : Int) - a1)) (w32 (a2 - a1))) ∧ a1 + (iMin (w32 ((((R16.2.1 ad18).2 : Nat) : Int) - a1)) (w32 (a2 - a1))) ≤ (R16.2.1 ad18).2 ∧ (0 : Int) + (iMin (w32 ((((R16.2.1 ad18).2 : Nat) : Int) - a1)) (w32 (a2 - a1))) ≤ (R16.2.1 ad12).2) (lt (cpN N15 ad18 ad12 a1 0 (iMin (w32 ((((R16.2.1 ad18).2 : Nat) : Int) - a1)) (w32 (a2 - a1)))) (fun (N21 : NW) => some (((some ad12), N21, R16), 0, 0))))))))))))
def hJ9_copyOfRange (n : Nat) (rp0 : Option Nat) (a1 : Int) (a2 : Int) (N : NW) (R : RW_) : OH (Option Nat) :=
  lt (fun (x0_1 : Option Nat) (N2 : NW) (R3 : RW_) => (bh (hJ9_copyOfRangeByte n x0_1 a1 a2 N2 R3) (fun r8 N9 R10 => some ((r8, N9, R10), 0, 0)) : OH (Option Nat))) (fun (J4 : Option Nat → NW → RW_ → OH (Option Nat)) => if a1 = 0 then (dr rp0 (fun ad17 => ck ((R.2.1 ad17).1 < 6 ∧ (R.2.1 ad17).2 < 2147483648) (if a2 = (((R.2.1 ad17).2 : Nat) : Int) then (ck ((R.2.1 ad17).1 = 1) (lt (R.2.1 ad17).2 (fun (m20 : Nat) => al m20 (lt R.2.2 (fun (ad21 : Nat) => lt (clN N R ad17) (fun (N24 : NW) => lt (nR R 1 m20) (fun (R25 : RW_) => ck ((R25.2.1 ad21).1 = 1) (some (((some ad21), N24, R25), 0, 0))))))))) else (J4 (some ad17) N R)))) else (J4 rp0 N R))
def hJ11_init_2 (n : Nat) (p0 : Nat) (rp1 : Option Nat) (rp2 : Option Nat) (N : NW) (R : RW_) : OH Int :=
  dr rp1 (fun ad1 => ck (R.2.1 ad1 = (14, 4)) (bh (hJ17_getValue n ad1 N R) (fun r3 N4 R5 => ck (R5.2.1 ad1 = (14, 4)) (bh (hJ18_length n ad1 N4 R5) (fun r13 N14 R15 => ck (R15.2.1 ad1 = (14, 4)) (bh (hJ17_isLatin1 n ad1 N14 R15) (fun r23 N24 R25 => if r23 = 0 then (ck (R25.2.1 ad1 = (14, 4)) (if (N24 ad1 2) = 0 then (ck (R25.2.1 p0 = (13, 4)) (ck (512 ≤ p0) (ck ((-128 : Int) ≤ 1 ∧ (1 : Int) < 128) (lt (up2 N24 p0 1 1) (fun (N36 : NW) => bh (hJ9_copyOfRange n r3 0 (iShl r13 1) N36 R25) (fun r37 N38 R39 => ck (R39.2.1 p0 = (13, 4)) (lt (sR R39 p0 0 r37) (fun (R47 : RW_) => some ((0, N38, R47), 0, 0))))))))) else (none))) else (ck (R25.2.1 p0 = (13, 4)) (ck (512 ≤ p0) (ck ((-128 : Int) ≤ 0 ∧ (0 : Int) < 128) (lt (up2 N24 p0 1 0) (fun (N54 : NW) => bh (hJ9_copyOfRange n r3 0 r13 N54 R25) (fun r55 N56 R57 => ck (R57.2.1 p0 = (13, 4)) (lt (sR R57 p0 0 r55) (fun (R65 : RW_) => some ((0, N56, R65), 0, 0))))))))))))))))
def hJ11_init (n : Nat) (p0 : Nat) (rp1 : Option Nat) (N : NW) (R : RW_) : OH Int :=
  bh (hJ11_init_2 n p0 rp1 none N R) (fun r1 N2 R3 => some ((0, N2, R3), 0, 0))
def hJ12_canEncode_2 (n : Nat) (a0 : Int) (N : NW) (R : RW_) : OH Int :=
  if 255 < a0 then (some ((0, N, R), 0, 0)) else (some ((1, N, R), 0, 0))
def hJ13_checkIndex (n : Nat) (a0 : Int) (a1 : Int) (rp2 : Option Nat) (N : NW) (R : RW_) : OH Int :=
  lt (fun (x2_1 : Option Nat) (N2 : NW) (R3 : RW_) => (none : OH Int)) (fun (J4 : Option Nat → NW → RW_ → OH Int) => if a0 < 0 then (J4 rp2 N R) else (if a0 < a1 then (some ((a0, N, R), 0, 0)) else (J4 rp2 N R)))
def hJ19_hugeLength (n : Nat) (a0 : Int) (a1 : Int) (N : NW) (R : RW_) : OH Int :=
  if 0 ≤ (w32 (a0 + a1)) then (if 2147483639 < (w32 (a0 + a1)) then (some ((w32 (a0 + a1), N, R), 0, 0)) else (some ((2147483639, N, R), 0, 0))) else (none)
def hJ19_newLength (n : Nat) (a0 : Int) (a1 : Int) (a2 : Int) (N : NW) (R : RW_) : OH Int :=
  lt (fun (N1 : NW) (R2 : RW_) => (bh (hJ19_hugeLength n a0 a1 N1 R2) (fun r7 N8 R9 => some ((r7, N8, R9), 0, 0)) : OH Int)) (fun (J3 : NW → RW_ → OH Int) => if (w32 (a0 + (iMax a1 a2))) ≤ 0 then (J3 N R) else (if 2147483639 < (w32 (a0 + (iMax a1 a2))) then (J3 N R) else (some ((w32 (a0 + (iMax a1 a2)), N, R), 0, 0))))
def hJ17_newCapacity (n : Nat) (p0 : Nat) (a1 : Int) (N : NW) (R : RW_) : OH Int :=
  ck (R.2.1 p0 = (14, 4)) (lt (R.1 p0 0) (fun (r2 : Option Nat) => dr r2 (fun ad3 => ck ((R.2.1 ad3).1 < 6 ∧ (R.2.1 ad3).2 < 2147483648) (lt ((((R.2.1 ad3).2 : Nat) : Int)) (fun x2_5 => lt (w32 ((iShl a1 (N p0 1)) - x2_5)) (fun x4_6 => bh (hJ19_newLength n x2_5 x4_6 (w32 (x2_5 + (iShl 2 (N p0 1)))) N R) (fun r7 N8 R9 => if r7 = 2147483647 then (none) else (ck (R9.2.1 p0 = (14, 4)) (some ((iShr r7 (N8 p0 1), N8, R9), 0, 0))))))))))
def hJ9_copyOf (n : Nat) (rp0 : Option Nat) (a1 : Int) (N : NW) (R : RW_) : OH (Option Nat) :=
  dr rp0 (fun ad1 => ck ((R.2.1 ad1).1 < 6 ∧ (R.2.1 ad1).2 < 2147483648) (if a1 = (((R.2.1 ad1).2 : Nat) : Int) then (ck ((R.2.1 ad1).1 = 1) (lt (R.2.1 ad1).2 (fun (m15 : Nat) => al m15 (lt R.2.2 (fun (ad16 : Nat) => lt (clN N R ad1) (fun (N19 : NW) => lt (nR R 1 m15) (fun (R20 : RW_) => ck ((R20.2.1 ad16).1 = 1) (some (((some ad16), N19, R20), 0, 0))))))))) else (ck (0 ≤ a1 ∧ a1 ≤ 60000000) (lt (a1).toNat (fun (m4 : Nat) => al m4 (lt R.2.2 (fun (ad5 : Nat) => lt (nN N R) (fun (N8 : NW) => lt (nR R 1 m4) (fun (R9 : RW_) => ck ((R9.2.1 ad1).1 < 6 ∧ (R9.2.1 ad1).2 < 2147483648) (ck (((R9.2.1 ad1).1 = 1 ∧ (R9.2.1 ad5).1 = 1 ∧ 512 ≤ ad5) ∧ 0 ≤ (0 : Int) ∧ 0 ≤ (0 : Int) ∧ 0 ≤ (iMin (((R9.2.1 ad1).2 : Nat) : Int) a1) ∧ (0 : Int) + (iMin (((R9.2.1 ad1).2 : Nat) : Int) a1) ≤ (R9.2.1 ad1).2 ∧ (0 : Int) + (iMin (((R9.2.1 ad1).2 : Nat) : Int) a1) ≤ (R9.2.1 ad5).2) (lt (cpN N8 ad1 ad5 0 0 (iMin (((R9.2.1 ad1).2 : Nat) : Int) a1)) (fun (N13 : NW) => some (((some ad5), N13, R9), 0, 0)))))))))))))
def hJ17_ensureCapacityInternal (n : Nat) (p0 : Nat) (a1 : Int) (N : NW) (R : RW_) : OH Int :=
  ck (R.2.1 p0 = (14, 4)) (lt (R.1 p0 0) (fun (r2 : Option Nat) => dr r2 (fun ad3 => ck ((R.2.1 ad3).1 < 6 ∧ (R.2.1 ad3).2 < 2147483648) (lt (iShr (((R.2.1 ad3).2 : Nat) : Int) (N p0 1)) (fun x2_5 => if (w32 (a1 - x2_5)) ≤ 0 then (some ((0, N, R), 0, 0)) else (lt (R.1 p0 0) (fun (r6 : Option Nat) => bh (hJ17_newCapacity n p0 a1 N R) (fun r7 N8 R9 => ck (R9.2.1 p0 = (14, 4)) (bh (hJ9_copyOf n r6 (iShl r7 (N8 p0 1)) N8 R9) (fun r17 N18 R19 => ck (R19.2.1 p0 = (14, 4)) (ck (512 ≤ p0) (lt (sR R19 p0 0 r17) (fun (R28 : RW_) => some ((0, N18, R28), 0, 0))))))))))))))
def hJ17_inflate (n : Nat) (p0 : Nat) (N : NW) (R : RW_) : OH Int :=
  ck (R.2.1 p0 = (14, 4)) (bh (hJ17_isLatin1 n p0 N R) (fun r2 N3 R4 => if r2 = 0 then (some ((0, N3, R4), 0, 0)) else (ck (R4.2.1 p0 = (14, 4)) (lt (R4.1 p0 0) (fun (r12 : Option Nat) => dr r12 (fun ad13 => ck ((R4.2.1 ad13).1 < 6 ∧ (R4.2.1 ad13).2 < 2147483648) (none)))))))
def hJ17_append (n : Nat) (p0 : Nat) (a1 : Int) (N : NW) (R : RW_) : OH (Option Nat) :=
  ck (R.2.1 p0 = (14, 4)) (bh (hJ17_ensureCapacityInternal n p0 (w32 ((N p0 3) + 1)) N R) (fun r2 N3 R4 => ck (R4.2.1 p0 = (14, 4)) (bh (hJ17_isLatin1 n p0 N3 R4) (fun r12 N13 R14 => lt (fun (N21 : NW) (R22 : RW_) => (ck (R22.2.1 p0 = (14, 4)) (bh (hJ17_isLatin1 n p0 N21 R22) (fun r28 N29 R30 => lt (fun (N37 : NW) (R38 : RW_) => (ck (R38.2.1 p0 = (14, 4)) (lt (R38.1 p0 0) (fun (r44 : Option Nat) => ck (512 ≤ p0) (lt (up2 N37 p0 3 (w32 ((N37 p0 3) + 1))) (fun (N46 : NW) => none)))) : OH (Option Nat))) (fun (J39 : NW → RW_ → OH (Option Nat)) => if r28 = 0 then (J39 N29 R30) else (ck (R30.2.1 p0 = (14, 4)) (bh (hJ17_inflate n p0 N29 R30) (fun r48 N49 R50 => J39 N49 R50)))))) : OH (Option Nat))) (fun (J23 : NW → RW_ → OH (Option Nat)) => if r12 = 0 then (J23 N13 R14) else (bh (hJ12_canEncode_2 n a1 N13 R14) (fun r58 N59 R60 => if r58 = 0 then (J23 N59 R60) else (ck (R60.2.1 p0 = (14, 4)) (lt (R60.1 p0 0) (fun (r68 : Option Nat) => ck (512 ≤ p0) (lt (up2 N59 p0 3 (w32 ((N59 p0 3) + 1))) (fun (N70 : NW) => dr r68 (fun ad71 => ck (((R60.2.1 ad71).1 = 1 ∧ 512 ≤ ad71) ∧ (0 ≤ (N59 p0 3) ∧ (N59 p0 3) < (R60.2.1 ad71).2) ∧ (-128 : Int) ≤ (i2B a1) ∧ (i2B a1) < 128) (lt (up2 N70 ad71 (N59 p0 3) (i2B a1)) (fun (N73 : NW) => some (((some p0), N73, R60), 0, 0))))))))))))))))
def hJ17_init (n : Nat) (p0 : Nat) (a1 : Int) (N : NW) (R : RW_) : OH Int :=
  ck (0 ≤ a1 ∧ a1 ≤ 60000000) (lt (a1).toNat (fun (m2 : Nat) => al m2 (lt R.2.2 (fun (ad3 : Nat) => lt (nN N R) (fun (N6 : NW) => lt (nR R 1 m2) (fun (R7 : RW_) => ck (R7.2.1 p0 = (14, 4)) (ck (512 ≤ p0) (lt (sR R7 p0 0 (some ad3)) (fun (R11 : RW_) => ck ((-128 : Int) ≤ 0 ∧ (0 : Int) < 128) (lt (up2 N6 p0 1 0) (fun (N15 : NW) => some ((0, N15, R11), 0, 0))))))))))))
def hJ18_append (n : Nat) (p0 : Nat) (a1 : Int) (N : NW) (R : RW_) : OH (Option Nat) :=
  ck (R.2.1 p0 = (14, 4)) (bh (hJ17_append n p0 a1 N R) (fun r2 N3 R4 => some (((some p0), N3, R4), 0, 0)))
def hJ18_init (n : Nat) (p0 : Nat) (a1 : Int) (N : NW) (R : RW_) : OH Int :=
  bh (hJ17_init n p0 a1 N R) (fun r1 N2 R3 => some ((0, N2, R3), 0, 0))
def hJ18_toString (n : Nat) (p0 : Nat) (N : NW) (R : RW_) : OH (Option Nat) :=
  al 4 (lt R.2.2 (fun (ad1 : Nat) => lt (nN N R) (fun (N4 : NW) => lt (nR R 13 4) (fun (R5 : RW_) => bh (hJ11_init n ad1 (some p0) N4 R5) (fun r9 N10 R11 => some (((some ad1), N10, R11), 0, 0))))))
def hJ20_init (n : Nat) (p0 : Nat) (N : NW) (R : RW_) : OH Int :=
  some ((0, N, R), 0, 0)
def hJ21_init (n : Nat) (p0 : Nat) (a1 : Int) (N : NW) (R : RW_) : OH Int :=
  bh (hJ20_init n p0 N R) (fun r1 N2 R3 => ck (R3.2.1 p0 = (15, 1)) (ck (512 ≤ p0) (ck ((-2147483648 : Int) ≤ a1 ∧ (a1 : Int) < 2147483648) (lt (up2 N2 p0 0 a1) (fun (N13 : NW) => some ((0, N13, R3), 0, 0))))))
def hJ21_intValue (n : Nat) (p0 : Nat) (N : NW) (R : RW_) : OH Int :=
  ck (R.2.1 p0 = (15, 1)) (some ((N p0 0, N, R), 0, 0))
def hJ21_valueOf (n : Nat) (a0 : Int) (N : NW) (R : RW_) : OH (Option Nat) :=
  lt (fun (N1 : NW) (R2 : RW_) => (al 1 (lt R2.2.2 (fun (ad7 : Nat) => lt (nN N1 R2) (fun (N10 : NW) => lt (nR R2 15 1) (fun (R11 : RW_) => bh (hJ21_init n ad7 a0 N10 R11) (fun r15 N16 R17 => some (((some ad7), N16, R17), 0, 0)))))) : OH (Option Nat))) (fun (J3 : NW → RW_ → OH (Option Nat)) => if a0 < (-128) then (J3 N R) else (if 127 < a0 then (J3 N R) else (ck (0 ≤ (w32 (a0 + 128)) ∧ (w32 (a0 + 128)) < 256) (lt (100 + ((w32 (a0 + 128))).toNat) (fun ad25 => some (((some ad25), N, R), 0, 0))))))
def hJ27_checkIndex (n : Nat) (a0 : Int) (a1 : Int) (N : NW) (R : RW_) : OH Int :=
  bh (hJ13_checkIndex n a0 a1 none N R) (fun r1 N2 R3 => some ((r1, N2, R3), 0, 0))
def hJ9_copyOf_3 (n : Nat) (rp0 : Option Nat) (a1 : Int) (rp2 : Option Nat) (N : NW) (R : RW_) : OH (Option Nat) :=
  ck (rAc rp2 (some 31) = true) (if rp2 = (some 31) then (ck (0 ≤ a1 ∧ a1 ≤ 60000000) (lt (a1).toNat (fun (m3 : Nat) => al m3 (lt R.2.2 (fun (ad4 : Nat) => lt (nN N R) (fun (N7 : NW) => lt (nR R 4 m3) (fun (R8 : RW_) => dr rp0 (fun ad10 => ck ((R8.2.1 ad10).1 < 6 ∧ (R8.2.1 ad10).2 < 2147483648) (ck (((R8.2.1 ad10).1 = 4 ∧ (R8.2.1 ad4).1 = 4 ∧ 512 ≤ ad4) ∧ 0 ≤ (0 : Int) ∧ 0 ≤ (0 : Int) ∧ 0 ≤ (iMin (((R8.2.1 ad10).2 : Nat) : Int) a1) ∧ (0 : Int) + (iMin (((R8.2.1 ad10).2 : Nat) : Int) a1) ≤ (R8.2.1 ad10).2 ∧ (0 : Int) + (iMin (((R8.2.1 ad10).2 : Nat) : Int) a1) ≤ (R8.2.1 ad4).2) (ck (∀ i : Nat, i < ((iMin (((R8.2.1 ad10).2 : Nat) : Int) a1)).toNat → stOk R8 4 (R8.1 ad10 ((0 : Int) + i)) = true) (lt (cpR R8 ad10 ad4 0 0 (iMin (((R8.2.1 ad10).2 : Nat) : Int) a1)) (fun (R14 : RW_) => some (((some ad4), N7, R14), 0, 0))))))))))))) else (none))
def hJ9_copyOf_2 (n : Nat) (rp0 : Option Nat) (a1 : Int) (N : NW) (R : RW_) : OH (Option Nat) :=
  dr rp0 (fun ad1 => ck ((R.2.1 ad1).1 = 4) (bh (hJ9_copyOf_3 n (some ad1) a1 (some 31) N R) (fun r3 N4 R5 => some ((r3, N4, R5), 0, 0))))
def hJ7_grow_2 (n : Nat) (p0 : Nat) (a1 : Int) (N : NW) (R : RW_) : OH (Option Nat) :=
  ck (R.2.1 p0 = (10, 3)) (lt (R.1 p0 1) (fun (r2 : Option Nat) => dr r2 (fun ad3 => ck ((R.2.1 ad3).1 < 6 ∧ (R.2.1 ad3).2 < 2147483648) (lt ((((R.2.1 ad3).2 : Nat) : Int)) (fun x2_5 => lt (fun (N6 : NW) (R7 : RW_) => (bh (hJ19_newLength n x2_5 (w32 (a1 - x2_5)) (iShr x2_5 1) N6 R7) (fun r12 N13 R14 => ck (R14.2.1 p0 = (10, 3)) (lt (R14.1 p0 1) (fun (r22 : Option Nat) => bh (hJ9_copyOf_2 n r22 r12 N13 R14) (fun r23 N24 R25 => ck (R25.2.1 p0 = (10, 3)) (ck (512 ≤ p0) (lt (sR R25 p0 1 r23) (fun (R34 : RW_) => some ((r23, N24, R34), 0, 0)))))))) : OH (Option Nat))) (fun (J8 : NW → RW_ → OH (Option Nat)) => if 0 < x2_5 then (J8 N R) else (lt (R.1 p0 1) (fun (r37 : Option Nat) => ck (rAc r37 (some 21) = true) (if r37 = (some 21) then (ck (0 ≤ (iMax 10 a1) ∧ (iMax 10 a1) ≤ 60000000) (lt ((iMax 10 a1)).toNat (fun (m40 : Nat) => al m40 (lt R.2.2 (fun (ad41 : Nat) => lt (nN N R) (fun (N44 : NW) => lt (nR R 4 m40) (fun (R45 : RW_) => ck (R45.2.1 p0 = (10, 3)) (ck (512 ≤ p0) (lt (sR R45 p0 1 (some ad41)) (fun (R49 : RW_) => some (((some ad41), N44, R49), 0, 0))))))))))) else (J8 N R))))))))))
def hJ7_grow (n : Nat) (p0 : Nat) (N : NW) (R : RW_) : OH (Option Nat) :=
  ck (R.2.1 p0 = (10, 3)) (bh (hJ7_grow_2 n p0 (w32 ((N p0 2) + 1)) N R) (fun r2 N3 R4 => some ((r2, N3, R4), 0, 0)))
def hJ7_add_2 (n : Nat) (p0 : Nat) (rp1 : Option Nat) (rp2 : Option Nat) (a3 : Int) (N : NW) (R : RW_) : OH Int :=
  dr rp2 (fun ad1 => ck ((R.2.1 ad1).1 < 6 ∧ (R.2.1 ad1).2 < 2147483648) (lt (fun (x1_3 : Option Nat) (x2_4 : Option Nat) (N5 : NW) (R6 : RW_) => (dr x2_4 (fun ad11 => ck ((R6.2.1 ad11).1 = 4 ∧ 512 ≤ ad11 ∧ 0 ≤ a3 ∧ a3 < (R6.2.1 ad11).2) (ck (stOk R6 4 x1_3 = true) (lt (sR R6 ad11 a3 x1_3) (fun (R14 : RW_) => ck (R14.2.1 p0 = (10, 3)) (ck (512 ≤ p0) (lt (up2 N5 p0 2 (w32 (a3 + 1))) (fun (N18 : NW) => some ((0, N18, R14), 0, 0)))))))) : OH Int)) (fun (J7 : Option Nat → Option Nat → NW → RW_ → OH Int) => if a3 = (((R.2.1 ad1).2 : Nat) : Int) then (ck (R.2.1 p0 = (10, 3)) (bh (hJ7_grow n p0 N R) (fun r20 N21 R22 => J7 rp1 r20 N21 R22))) else (J7 rp1 (some ad1) N R))))
def hJ7_add (n : Nat) (p0 : Nat) (rp1 : Option Nat) (N : NW) (R : RW_) : OH Int :=
  ck (R.2.1 p0 = (10, 3)) (ck (512 ≤ p0) (lt (up2 N p0 0 (w32 ((N p0 0) + 1))) (fun (N3 : NW) => lt (R.1 p0 1) (fun (r4 : Option Nat) => bh (hJ7_add_2 n p0 rp1 r4 (N3 p0 2) N3 R) (fun r5 N6 R7 => some ((1, N6, R7), 0, 0))))))
def hJ7_elementData (n : Nat) (p0 : Nat) (a1 : Int) (N : NW) (R : RW_) : OH (Option Nat) :=
  ck (R.2.1 p0 = (10, 3)) (lt (R.1 p0 1) (fun (r2 : Option Nat) => dr r2 (fun ad3 => ck ((R.2.1 ad3).1 = 4 ∧ 0 ≤ a1 ∧ a1 < (R.2.1 ad3).2) (lt (R.1 ad3 a1) (fun (r5 : Option Nat) => some ((r5, N, R), 0, 0))))))
def hJ7_fastRemove (n : Nat) (p0 : Nat) (rp1 : Option Nat) (a2 : Int) (N : NW) (R : RW_) : OH Int :=
  ck (R.2.1 p0 = (10, 3)) (ck (512 ≤ p0) (lt (up2 N p0 0 (w32 ((N p0 0) + 1))) (fun (N3 : NW) => lt (fun (x1_4 : Option Nat) (N5 : NW) (R6 : RW_) => (ck (R6.2.1 p0 = (10, 3)) (ck (512 ≤ p0) (lt (up2 N5 p0 2 (w32 ((N3 p0 2) - 1))) (fun (N13 : NW) => dr x1_4 (fun ad14 => ck ((R6.2.1 ad14).1 = 4 ∧ 512 ≤ ad14 ∧ 0 ≤ (w32 ((N3 p0 2) - 1)) ∧ (w32 ((N3 p0 2) - 1)) < (R6.2.1 ad14).2) (ck (stOk R6 4 none = true) (lt (sR R6 ad14 (w32 ((N3 p0 2) - 1)) none) (fun (R17 : RW_) => some ((0, N13, R17), 0, 0)))))))) : OH Int)) (fun (J7 : Option Nat → NW → RW_ → OH Int) => if (w32 ((N3 p0 2) - 1)) ≤ a2 then (J7 rp1 N3 R) else (dr rp1 (fun ad20 => ck (((R.2.1 ad20).1 = 4 ∧ (R.2.1 ad20).1 = 4 ∧ 512 ≤ ad20) ∧ 0 ≤ (w32 (a2 + 1)) ∧ 0 ≤ a2 ∧ 0 ≤ (w32 ((w32 ((N3 p0 2) - 1)) - a2)) ∧ (w32 (a2 + 1)) + (w32 ((w32 ((N3 p0 2) - 1)) - a2)) ≤ (R.2.1 ad20).2 ∧ a2 + (w32 ((w32 ((N3 p0 2) - 1)) - a2)) ≤ (R.2.1 ad20).2) (ck (∀ i : Nat, i < ((w32 ((w32 ((N3 p0 2) - 1)) - a2))).toNat → stOk R 4 (R.1 ad20 ((w32 (a2 + 1)) + i)) = true) (lt (cpR R ad20 ad20 (w32 (a2 + 1)) a2 (w32 ((w32 ((N3 p0 2) - 1)) - a2))) (fun (R23 : RW_) => J7 (some ad20) N3 R23)))))))))
def hJ7_get (n : Nat) (p0 : Nat) (a1 : Int) (N : NW) (R : RW_) : OH (Option Nat) :=
  ck (R.2.1 p0 = (10, 3)) (bh (hJ27_checkIndex n a1 (N p0 2) N R) (fun r2 N3 R4 => ck (R4.2.1 p0 = (10, 3)) (bh (hJ7_elementData n p0 a1 N3 R4) (fun r12 N13 R14 => some ((r12, N13, R14), 0, 0)))))
def hJ7_remove (n : Nat) (p0 : Nat) (a1 : Int) (N : NW) (R : RW_) : OH (Option Nat) :=
  ck (R.2.1 p0 = (10, 3)) (bh (hJ27_checkIndex n a1 (N p0 2) N R) (fun r2 N3 R4 => ck (R4.2.1 p0 = (10, 3)) (lt (R4.1 p0 1) (fun (r12 : Option Nat) => dr r12 (fun ad13 => ck ((R4.2.1 ad13).1 = 4 ∧ 0 ≤ a1 ∧ a1 < (R4.2.1 ad13).2) (lt (R4.1 ad13 a1) (fun (r15 : Option Nat) => bh (hJ7_fastRemove n p0 (some ad13) a1 N3 R4) (fun r16 N17 R18 => some ((r15, N17, R18), 0, 0)))))))))
def hJ7_set (n : Nat) (p0 : Nat) (a1 : Int) (rp2 : Option Nat) (N : NW) (R : RW_) : OH (Option Nat) :=
  ck (R.2.1 p0 = (10, 3)) (bh (hJ27_checkIndex n a1 (N p0 2) N R) (fun r2 N3 R4 => ck (R4.2.1 p0 = (10, 3)) (bh (hJ7_elementData n p0 a1 N3 R4) (fun r12 N13 R14 => ck (R14.2.1 p0 = (10, 3)) (lt (R14.1 p0 1) (fun (r22 : Option Nat) => dr r22 (fun ad23 => ck ((R14.2.1 ad23).1 = 4 ∧ 512 ≤ ad23 ∧ 0 ≤ a1 ∧ a1 < (R14.2.1 ad23).2) (ck (stOk R14 4 rp2 = true) (lt (sR R14 ad23 a1 rp2) (fun (R26 : RW_) => some ((r12, N13, R26), 0, 0)))))))))))
def hJ7_size (n : Nat) (p0 : Nat) (N : NW) (R : RW_) : OH Int :=
  ck (R.2.1 p0 = (10, 3)) (some ((N p0 2, N, R), 0, 0))
def hJ8_dec (n : Nat) (a0 : Int) (a1 : Int) (N : NW) (R : RW_) : OH Int :=
  if 0 ≤ (w32 (a0 + (-1))) then (some ((w32 (a0 + (-1)), N, R), 0, 0)) else (some ((w32 (a1 - 1), N, R), 0, 0))
end

section
set_option maxRecDepth 100000
def ilJ8_newCapacity : IL := [(0, 1, 1, .aload_n 0), (1, 4, 3, .getfield 3), (4, 5, 1, .arraylength), (5, 6, 1, .istore_n 3), (6, 7, 1, .iload_n 3), (7, 8, 1, .iload_n 1), (8, 9, 1, .iadd), (9, 10, 1, .dup), (10, 12, 2, .istore 4), (12, 14, 2, .ldc 9), (14, 15, 1, .isub), (15, 18, 3, .ifCond .le 21), (18, 20, 2, .iload 4), (20, 23, 3, .ifCond .ge 13), (23, 26, 3, .new 33), (26, 27, 1, .dup), (27, 29, 2, .ldc 35), (29, 32, 3, .invokespecial 37), (32, 33, 1, .athrow), (33, 35, 2, .ldc 41), (35, 36, 1, .ireturn), (36, 37, 1, .iload_n 1), (37, 38, 1, .iload_n 2), (38, 41, 3, .if_icmp .le 6), (41, 43, 2, .iload 4), (43, 44, 1, .ireturn), (44, 45, 1, .iload_n 3), (45, 46, 1, .iload_n 2), (46, 47, 1, .iadd), (47, 49, 2, .ldc 9), (49, 50, 1, .isub), (50, 53, 3, .ifCond .ge 9), (53, 54, 1, .iload_n 3), (54, 55, 1, .iload_n 2), (55, 56, 1, .iadd), (56, 59, 3, .goto 5), (59, 61, 2, .ldc 9), (61, 62, 1, .ireturn)]
def ilJ8_grow : IL := [(0, 1, 1, .aload_n 0), (1, 4, 3, .getfield 3), (4, 5, 1, .arraylength), (5, 6, 1, .istore_n 2), (6, 7, 1, .iload_n 2), (7, 9, 2, .bipush 64), (9, 12, 3, .if_icmp .ge 9), (12, 13, 1, .iload_n 2), (13, 14, 1, .iconst 2), (14, 15, 1, .iadd), (15, 18, 3, .goto 6), (18, 19, 1, .iload_n 2), (19, 20, 1, .iconst 1), (20, 21, 1, .ishr), (21, 23, 2, .istore 4), (23, 25, 2, .iload 4), (25, 26, 1, .iload_n 1), (26, 29, 3, .if_icmp .lt 15), (29, 30, 1, .iload_n 2), (30, 32, 2, .iload 4), (32, 33, 1, .iadd), (33, 34, 1, .dup), (34, 35, 1, .istore_n 3), (35, 37, 2, .ldc 9), (37, 38, 1, .isub), (38, 41, 3, .ifCond .le 11), (41, 42, 1, .aload_n 0), (42, 43, 1, .iload_n 1), (43, 45, 2, .iload 4), (45, 48, 3, .invokevirtual 10), (48, 49, 1, .istore_n 3), (49, 50, 1, .aload_n 0), (50, 51, 1, .aload_n 0), (51, 54, 3, .getfield 3), (54, 55, 1, .iload_n 3), (55, 58, 3, .invokestatic 14), (58, 59, 1, .dup_x1), (59, 62, 3, .putfield 3), (62, 64, 2, .astore 5), (64, 65, 1, .aload_n 0), (65, 68, 3, .getfield 20), (68, 69, 1, .aload_n 0), (69, 72, 3, .getfield 24), (72, 75, 3, .if_icmp .lt 24), (75, 76, 1, .aload_n 0), (76, 79, 3, .getfield 20), (79, 80, 1, .aload_n 0), (80, 83, 3, .getfield 24), (83, 86, 3, .if_icmp .ne 81), (86, 88, 2, .aload 5), (88, 89, 1, .aload_n 0), (89, 92, 3, .getfield 24), (92, 93, 1, .aaload), (93, 96, 3, .ifnull 71), (96, 97, 1, .iload_n 3), (97, 98, 1, .iload_n 2), (98, 99, 1, .isub), (99, 101, 2, .istore 6), (101, 103, 2, .aload 5), (103, 104, 1, .aload_n 0), (104, 107, 3, .getfield 24), (107, 109, 2, .aload 5), (109, 110, 1, .aload_n 0), (110, 113, 3, .getfield 24), (113, 115, 2, .iload 6), (115, 116, 1, .iadd), (116, 117, 1, .iload_n 2), (117, 118, 1, .aload_n 0), (118, 121, 3, .getfield 24), (121, 122, 1, .isub), (122, 125, 3, .invokestatic 27), (125, 126, 1, .aload_n 0), (126, 129, 3, .getfield 24), (129, 131, 2, .istore 7), (131, 132, 1, .aload_n 0), (132, 133, 1, .dup), (133, 136, 3, .getfield 24), (136, 138, 2, .iload 6), (138, 139, 1, .iadd), (139, 140, 1, .dup_x1), (140, 143, 3, .putfield 24), (143, 145, 2, .istore 8), (145, 147, 2, .iload 7), (147, 149, 2, .iload 8), (149, 152, 3, .if_icmp .ge 15), (152, 154, 2, .aload 5), (154, 156, 2, .iload 7), (156, 157, 1, .aconst_null), (157, 158, 1, .aastore), (158, 161, 3, .iinc 7 1), (161, 164, 3, .goto (-16)), (164, 165, 1, .return_)]
def ilJ8_addFirst : IL := [(0, 1, 1, .aload_n 1), (1, 4, 3, .ifnonnull 11), (4, 7, 3, .new 65), (7, 8, 1, .dup), (8, 11, 3, .invokespecial 67), (11, 12, 1, .athrow), (12, 13, 1, .aload_n 0), (13, 16, 3, .getfield 3), (16, 17, 1, .astore_n 2), (17, 18, 1, .aload_n 2), (18, 19, 1, .aload_n 0), (19, 20, 1, .aload_n 0), (20, 23, 3, .getfield 24), (23, 24, 1, .aload_n 2), (24, 25, 1, .arraylength), (25, 28, 3, .invokestatic 68), (28, 29, 1, .dup_x1), (29, 32, 3, .putfield 24), (32, 33, 1, .aload_n 1), (33, 34, 1, .aastore), (34, 35, 1, .aload_n 0), (35, 38, 3, .getfield 24), (38, 39, 1, .aload_n 0), (39, 42, 3, .getfield 20), (42, 45, 3, .if_icmp .ne 8), (45, 46, 1, .aload_n 0), (46, 47, 1, .iconst 1), (47, 50, 3, .invokevirtual 71), (50, 51, 1, .return_)]
def ilJ8_elementAt : IL := [(0, 1, 1, .aload_n 0), (1, 2, 1, .iload_n 1), (2, 3, 1, .aaload), (3, 4, 1, .areturn)]
def ilJ8_inc : IL := [(0, 3, 3, .iinc 0 1), (3, 4, 1, .iload_n 0), (4, 5, 1, .iload_n 1), (5, 8, 3, .if_icmp .lt 5), (8, 9, 1, .iconst 0), (9, 10, 1, .istore_n 0), (10, 11, 1, .iload_n 0), (11, 12, 1, .ireturn)]
def ilJ8_pollFirst : IL := [(0, 1, 1, .aload_n 0), (1, 4, 3, .getfield 3), (4, 5, 1, .dup), (5, 6, 1, .astore_n 1), (6, 7, 1, .aload_n 0), (7, 10, 3, .getfield 24), (10, 11, 1, .dup), (11, 12, 1, .istore_n 2), (12, 15, 3, .invokestatic 103), (15, 16, 1, .astore_n 3), (16, 17, 1, .aload_n 3), (17, 20, 3, .ifnull 17), (20, 21, 1, .aload_n 1), (21, 22, 1, .iload_n 2), (22, 23, 1, .aconst_null), (23, 24, 1, .aastore), (24, 25, 1, .aload_n 0), (25, 26, 1, .iload_n 2), (26, 27, 1, .aload_n 1), (27, 28, 1, .arraylength), (28, 31, 3, .invokestatic 74), (31, 34, 3, .putfield 24), (34, 35, 1, .aload_n 3), (35, 36, 1, .areturn)]
def ilJ8_removeFirst : IL := [(0, 1, 1, .aload_n 0), (1, 4, 3, .invokevirtual 93), (4, 5, 1, .astore_n 1), (5, 6, 1, .aload_n 1), (6, 9, 3, .ifnonnull 11), (9, 12, 3, .new 97), (12, 13, 1, .dup), (13, 16, 3, .invokespecial 99), (16, 17, 1, .athrow), (17, 18, 1, .aload_n 1), (18, 19, 1, .areturn)]
def ilJ8_pop : IL := [(0, 1, 1, .aload_n 0), (1, 4, 3, .invokevirtual 118), (4, 5, 1, .areturn)]
def ilJ8_push : IL := [(0, 1, 1, .aload_n 0), (1, 2, 1, .aload_n 1), (2, 5, 3, .invokevirtual 86), (5, 6, 1, .return_)]
def ilJ8_sub : IL := [(0, 1, 1, .iload_n 0), (1, 2, 1, .iload_n 1), (2, 3, 1, .isub), (3, 4, 1, .dup), (4, 5, 1, .istore_n 0), (5, 8, 3, .ifCond .ge 7), (8, 9, 1, .iload_n 0), (9, 10, 1, .iload_n 2), (10, 11, 1, .iadd), (11, 12, 1, .istore_n 0), (12, 13, 1, .iload_n 0), (13, 14, 1, .ireturn)]
def ilJ8_size : IL := [(0, 1, 1, .aload_n 0), (1, 4, 3, .getfield 20), (4, 5, 1, .aload_n 0), (5, 8, 3, .getfield 24), (8, 9, 1, .aload_n 0), (9, 12, 3, .getfield 3), (12, 13, 1, .arraylength), (13, 16, 3, .invokestatic 127), (16, 17, 1, .ireturn)]
def hJ8_newCapacity (n : Nat) (p0 : Nat) (a1 : Int) (a2 : Int) (N : NW) (R : RW_) : OH Int :=
  ck (R.2.1 p0 = (11, 3)) (lt (R.1 p0 0) (fun (r2 : Option Nat) => dr r2 (fun ad3 => ck ((R.2.1 ad3).1 < 6 ∧ (R.2.1 ad3).2 < 2147483648) (lt ((((R.2.1 ad3).2 : Nat) : Int)) (fun x3_5 => if (w32 ((w32 (x3_5 + a1)) - 2147483639)) ≤ 0 then (if a1 ≤ a2 then (if 0 ≤ (w32 ((w32 (x3_5 + a2)) - 2147483639)) then (some ((2147483639, N, R), 0, 0)) else (some ((w32 (x3_5 + a2), N, R), 0, 0))) else (some ((w32 (x3_5 + a1), N, R), 0, 0))) else (if 0 ≤ (w32 (x3_5 + a1)) then (some ((2147483647, N, R), 0, 0)) else (none)))))))
def hJ8_grow_l145 (v5 : Nat) (v8 : Int) (K : NW → RW_ → OH Int) : Nat → Int → NW → RW_ → OH Int
  | 0, _, _, _ => none
  | n + 1, v7, N, R => if v8 ≤ v7 then (K N R) else (ck ((R.2.1 v5).1 = 4 ∧ 512 ≤ v5 ∧ 0 ≤ v7 ∧ v7 < (R.2.1 v5).2) (ck (stOk R 4 none = true) (lt (sR R v5 v7 none) (fun (R55 : RW_) => hJ8_grow_l145 v5 v8 K n (w32 (v7 + 1)) N R55))))
def hJ8_grow (n : Nat) (p0 : Nat) (a1 : Int) (N : NW) (R : RW_) : OH Int :=
  ck (R.2.1 p0 = (11, 3)) (lt (R.1 p0 0) (fun (r2 : Option Nat) => dr r2 (fun ad3 => ck ((R.2.1 ad3).1 < 6 ∧ (R.2.1 ad3).2 < 2147483648) (lt ((((R.2.1 ad3).2 : Nat) : Int)) (fun x2_5 => lt (fun (s6 : Int) (N7 : NW) (R8 : RW_) => (lt (fun (x3_13 : Int) (N14 : NW) (R15 : RW_) => (ck (R15.2.1 p0 = (11, 3)) (lt (R15.1 p0 0) (fun (r21 : Option Nat) => bh (hJ9_copyOf_2 n r21 x3_13 N14 R15) (fun r22 N23 R24 => ck (R24.2.1 p0 = (11, 3)) (ck (512 ≤ p0) (lt (sR R24 p0 0 r22) (fun (R33 : RW_) => lt (fun (x5_36 : Option Nat) (N37 : NW) (R38 : RW_) => (ck (R38.2.1 p0 = (11, 3)) (dr x5_36 (fun ad44 => ck (((R38.2.1 ad44).1 = 4 ∧ (R38.2.1 ad44).1 = 4 ∧ 512 ≤ ad44) ∧ 0 ≤ (N37 p0 1) ∧ 0 ≤ (w32 ((N37 p0 1) + (w32 (x3_13 - x2_5)))) ∧ 0 ≤ (w32 (x2_5 - (N37 p0 1))) ∧ (N37 p0 1) + (w32 (x2_5 - (N37 p0 1))) ≤ (R38.2.1 ad44).2 ∧ (w32 ((N37 p0 1) + (w32 (x3_13 - x2_5)))) + (w32 (x2_5 - (N37 p0 1))) ≤ (R38.2.1 ad44).2) (ck (∀ i : Nat, i < ((w32 (x2_5 - (N37 p0 1)))).toNat → stOk R38 4 (R38.1 ad44 ((N37 p0 1) + i)) = true) (lt (cpR R38 ad44 ad44 (N37 p0 1) (w32 ((N37 p0 1) + (w32 (x3_13 - x2_5)))) (w32 (x2_5 - (N37 p0 1)))) (fun (R47 : RW_) => ck (512 ≤ p0) (lt (up2 N37 p0 1 (w32 ((N37 p0 1) + (w32 (x3_13 - x2_5))))) (fun (N51 : NW) => lt (w32 ((N37 p0 1) + (w32 (x3_13 - x2_5)))) (fun x8_52 => hJ8_grow_l145 ad44 x8_52 (fun (N58 : NW) (R59 : RW_) => (some ((0, N58, R59), 0, 0) : OH Int)) n (N37 p0 1) N51 R47)))))))) : OH Int)) (fun (J39 : Option Nat → NW → RW_ → OH Int) => if (N23 p0 2) < (N23 p0 1) then (J39 r22 N23 R33) else (if (N23 p0 2) = (N23 p0 1) then (dr r22 (fun ad63 => ck ((R33.2.1 ad63).1 = 4 ∧ 0 ≤ (N23 p0 1) ∧ (N23 p0 1) < (R33.2.1 ad63).2) (lt (R33.1 ad63 (N23 p0 1)) (fun (r65 : Option Nat) => if r65 = none then (some ((0, N23, R33), 0, 0)) else (J39 (some ad63) N23 R33))))) else (some ((0, N23, R33), 0, 0)))))))))) : OH Int)) (fun (J16 : Int → NW → RW_ → OH Int) => lt (fun (N69 : NW) (R70 : RW_) => (ck (R70.2.1 p0 = (11, 3)) (bh (hJ8_newCapacity n p0 a1 s6 N69 R70) (fun r76 N77 R78 => J16 r76 N77 R78)) : OH Int)) (fun (J71 : NW → RW_ → OH Int) => if s6 < a1 then (J71 N7 R8) else (if (w32 ((w32 (x2_5 + s6)) - 2147483639)) ≤ 0 then (J16 (w32 (x2_5 + s6)) N7 R8) else (J71 N7 R8)))) : OH Int)) (fun (J9 : Int → NW → RW_ → OH Int) => if 64 ≤ x2_5 then (J9 (iShr x2_5 1) N R) else (J9 (w32 (x2_5 + 2)) N R)))))))
def hJ8_addFirst (n : Nat) (p0 : Nat) (rp1 : Option Nat) (N : NW) (R : RW_) : OH Int :=
  if rp1 = none then (none) else (ck (R.2.1 p0 = (11, 3)) (lt (R.1 p0 0) (fun (r2 : Option Nat) => dr r2 (fun ad3 => ck ((R.2.1 ad3).1 < 6 ∧ (R.2.1 ad3).2 < 2147483648) (bh (hJ8_dec n (N p0 1) (((R.2.1 ad3).2 : Nat) : Int) N R) (fun r5 N6 R7 => ck (R7.2.1 p0 = (11, 3)) (ck (512 ≤ p0) (lt (up2 N6 p0 1 r5) (fun (N16 : NW) => ck ((R7.2.1 ad3).1 = 4 ∧ 512 ≤ ad3 ∧ 0 ≤ r5 ∧ r5 < (R7.2.1 ad3).2) (ck (stOk R7 4 rp1 = true) (lt (sR R7 ad3 r5 rp1) (fun (R19 : RW_) => if (N16 p0 1) = (N16 p0 2) then (bh (hJ8_grow n p0 1 N16 R19) (fun r22 N23 R24 => some ((0, N23, R24), 0, 0))) else (some ((0, N16, R19), 0, 0))))))))))))))
def hJ8_elementAt (n : Nat) (rp0 : Option Nat) (a1 : Int) (N : NW) (R : RW_) : OH (Option Nat) :=
  dr rp0 (fun ad1 => ck ((R.2.1 ad1).1 = 4 ∧ 0 ≤ a1 ∧ a1 < (R.2.1 ad1).2) (lt (R.1 ad1 a1) (fun (r3 : Option Nat) => some ((r3, N, R), 0, 0))))
def hJ8_inc (n : Nat) (a0 : Int) (a1 : Int) (N : NW) (R : RW_) : OH Int :=
  if (w32 (a0 + 1)) < a1 then (some ((w32 (a0 + 1), N, R), 0, 0)) else (some ((0, N, R), 0, 0))
def hJ8_pollFirst (n : Nat) (p0 : Nat) (N : NW) (R : RW_) : OH (Option Nat) :=
  ck (R.2.1 p0 = (11, 3)) (lt (R.1 p0 0) (fun (r2 : Option Nat) => bh (hJ8_elementAt n r2 (N p0 1) N R) (fun r3 N4 R5 => if r3 = none then (some ((r3, N4, R5), 0, 0)) else (dr r2 (fun ad12 => ck ((R5.2.1 ad12).1 = 4 ∧ 512 ≤ ad12 ∧ 0 ≤ (N p0 1) ∧ (N p0 1) < (R5.2.1 ad12).2) (ck (stOk R5 4 none = true) (lt (sR R5 ad12 (N p0 1) none) (fun (R15 : RW_) => ck ((R15.2.1 ad12).1 < 6 ∧ (R15.2.1 ad12).2 < 2147483648) (bh (hJ8_inc n (N p0 1) (((R15.2.1 ad12).2 : Nat) : Int) N4 R15) (fun r18 N19 R20 => ck (R20.2.1 p0 = (11, 3)) (ck (512 ≤ p0) (lt (up2 N19 p0 1 r18) (fun (N29 : NW) => some ((r3, N29, R20), 0, 0))))))))))))))
def hJ8_removeFirst (n : Nat) (p0 : Nat) (N : NW) (R : RW_) : OH (Option Nat) :=
  ck (R.2.1 p0 = (11, 3)) (bh (hJ8_pollFirst n p0 N R) (fun r2 N3 R4 => if r2 = none then (none) else (some ((r2, N3, R4), 0, 0))))
def hJ8_pop (n : Nat) (p0 : Nat) (N : NW) (R : RW_) : OH (Option Nat) :=
  ck (R.2.1 p0 = (11, 3)) (bh (hJ8_removeFirst n p0 N R) (fun r2 N3 R4 => some ((r2, N3, R4), 0, 0)))
def hJ8_push (n : Nat) (p0 : Nat) (rp1 : Option Nat) (N : NW) (R : RW_) : OH Int :=
  ck (R.2.1 p0 = (11, 3)) (bh (hJ8_addFirst n p0 rp1 N R) (fun r2 N3 R4 => some ((0, N3, R4), 0, 0)))
def hJ8_sub (n : Nat) (a0 : Int) (a1 : Int) (a2 : Int) (N : NW) (R : RW_) : OH Int :=
  if 0 ≤ (w32 (a0 - a1)) then (some ((w32 (a0 - a1), N, R), 0, 0)) else (lt (w32 ((w32 (a0 - a1)) + a2)) (fun x0_1 => some ((x0_1, N, R), 0, 0)))
def hJ8_size (n : Nat) (p0 : Nat) (N : NW) (R : RW_) : OH Int :=
  ck (R.2.1 p0 = (11, 3)) (lt (R.1 p0 0) (fun (r2 : Option Nat) => dr r2 (fun ad3 => ck ((R.2.1 ad3).1 < 6 ∧ (R.2.1 ad3).2 < 2147483648) (bh (hJ8_sub n (N p0 2) (N p0 1) (((R.2.1 ad3).2 : Nat) : Int) N R) (fun r5 N6 R7 => some ((r5, N6, R7), 0, 0))))))
end
