/-! 86.ab.lean.txt -/
/-! the works: what it holds at first hand; feeding -/
set_option maxRecDepth 100000
set_option maxHeartbeats 2000000
/-- the object's fields tell where all lies -/
def FA (F : List Int) (A : Int → Int) : Prop := len F = 21 ∧ ∀ j, 0 ≤ j → j < 14 → gt F j = A j
/-- the object, what is ready, what was told, the tape, what is shown -/
def hdL (o : Int) (A : Int → Int) (F R D tp ou : List Int) (ct co eo : Int) (K : List It) : List It := obj o (15, F, 0, 0) :: obj (A 0) (104, R, 0, 0) :: obj (A 1) (104, D, 0, 0) :: obj (A 2) (1, tp, ct, 0) :: obj (A 3) (1, ou, co, eo) :: K
theorem gt_ne {l : List Int} {k j v : Int} (h0 : 0 ≤ k) (h1 : 0 ≤ j) (h : j ≠ k) : gt (l.set k.toNat v) j = gt l j := sorry
theorem gt_eq {l : List Int} {k v : Int} (h0 : 0 ≤ k) (h1 : k < len l) : gt (l.set k.toNat v) k = v := sorry
theorem FA.set {F : List Int} {A : Int → Int} {k v : Int} (h : FA F A) (hk : 14 ≤ k) : FA (F.set k.toNat v) A := sorry
section OWP
variable {Θ Θ1 : Th} {L : List It} {n : Nat} {a k v cc e : Int} {l : List Int} {t : Nat}
theorem OwT.pfT (h : OwS Θ L) (hn : L[n]? = some (obj a (t, l, cc, e))) (ht : 0 < t) (hp : Θ1 = pf Θ a k v) : OwT Θ L Θ1 (L.set n (obj a (t, l.set k.toNat v, cc, e))) := sorry
theorem OwT.uqT {c' : Cl} {c : Cl} (h : OwS Θ L) (hn : L[n]? = some (obj a c)) (hc : 0 < c.1) (hk : c'.1 = c.1) (e : Θ1 = uq Θ a c') : OwT Θ L Θ1 (L.set n (obj a c')) := OwT.put h hn hc hk e
end OWP
/-- a byte of a number -/
def feB (x k : Int) : Int := (shrI x (24 - 8 * k)) % 256
def feS (a b c d e : Int) (R : List Int) (k : Int) : List Int := ((((R.set k.toNat (feB a k)).set (4 + k).toNat (feB b k)).set (8 + k).toNat (feB c k)).set (12 + k).toNat (feB d k)).set (16 + k).toNat (feB e k)
def feF (a b c d e : Int) (R : List Int) : Nat → List Int
  | 0 => R
  | n + 1 => feS a b c d e (feF a b c d e R n) (n : Int)
section HDW
variable {ω : AO} {d G : Nat} {Θ : Th} {o l1 l2 l3 l4 l5 : Int} {A : Int → Int} {F R D tp ou : List Int} {ct co eo : Int} {K : List It}
theorem hw0 (h : OwS Θ (hdL o A F R D tp ou ct co eo K)) : xo Θ o = (15, F, 0, 0) ∧ ¬ fz Θ o := h.at (n := 0) rfl
theorem hw1 (h : OwS Θ (hdL o A F R D tp ou ct co eo K)) : xo Θ (A 0) = (104, R, 0, 0) ∧ ¬ fz Θ (A 0) := h.at (n := 1) rfl
theorem hw2 (h : OwS Θ (hdL o A F R D tp ou ct co eo K)) : xo Θ (A 1) = (104, D, 0, 0) ∧ ¬ fz Θ (A 1) := h.at (n := 2) rfl
theorem hw3 (h : OwS Θ (hdL o A F R D tp ou ct co eo K)) : xo Θ (A 2) = (1, tp, ct, 0) ∧ ¬ fz Θ (A 2) := h.at (n := 3) rfl
theorem hw4 (h : OwS Θ (hdL o A F R D tp ou ct co eo K)) : xo Θ (A 3) = (1, ou, co, eo) ∧ ¬ fz Θ (A 3) := h.at (n := 4) rfl
theorem hv0 (h : OwS Θ (hdL o A F R D tp ou ct co eo K)) : vv Θ o = F := vl_of (hw0 h).1
theorem hv1 (h : OwS Θ (hdL o A F R D tp ou ct co eo K)) : vv Θ (A 0) = R := vl_of (hw1 h).1
theorem hv2 (h : OwS Θ (hdL o A F R D tp ou ct co eo K)) : vv Θ (A 1) = D := vl_of (hw2 h).1
theorem hv3 (h : OwS Θ (hdL o A F R D tp ou ct co eo K)) : vv Θ (A 2) = tp := vl_of (hw3 h).1
theorem hv4 (h : OwS Θ (hdL o A F R D tp ou ct co eo K)) : vv Θ (A 3) = ou := vl_of (hw4 h).1
theorem hp3 (h : OwS Θ (hdL o A F R D tp ou ct co eo K)) : cp Θ (A 2) = ct := cp_of (hw3 h).1
theorem hp4 (h : OwS Θ (hdL o A F R D tp ou ct co eo K)) : cp Θ (A 3) = co := cp_of (hw4 h).1
theorem hx3 (h : OwS Θ (hdL o A F R D tp ou ct co eo K)) : cx Θ (A 2) = 0 := cx_of (hw3 h).1
theorem hx4 (h : OwS Θ (hdL o A F R D tp ou ct co eo K)) : cx Θ (A 3) = eo := cx_of (hw4 h).1
theorem hwR {Θ1 : Th} {k v : Int} (h : OwS Θ (hdL o A F R D tp ou ct co eo K)) (t : Θ1 = pf Θ (A 0) k v) : OwT Θ (hdL o A F R D tp ou ct co eo K) Θ1 (hdL o A F (R.set k.toNat v) D tp ou ct co eo K) := sorry
theorem hwD {Θ1 : Th} {k v : Int} (h : OwS Θ (hdL o A F R D tp ou ct co eo K)) (t : Θ1 = pf Θ (A 1) k v) : OwT Θ (hdL o A F R D tp ou ct co eo K) Θ1 (hdL o A F R (D.set k.toNat v) tp ou ct co eo K) := sorry
theorem hwF {Θ1 : Th} {k v : Int} (h : OwS Θ (hdL o A F R D tp ou ct co eo K)) (t : Θ1 = pf Θ o k v) : OwT Θ (hdL o A F R D tp ou ct co eo K) Θ1 (hdL o A (F.set k.toNat v) R D tp ou ct co eo K) := sorry
theorem hwT {Θ1 : Th} {tp' : List Int} {ct' : Int} (h : OwS Θ (hdL o A F R D tp ou ct co eo K)) (t : Θ1 = uq Θ (A 2) (1, tp', ct', 0)) : OwT Θ (hdL o A F R D tp ou ct co eo K) Θ1 (hdL o A F R D tp' ou ct' co eo K) := sorry
theorem hwO {Θ1 : Th} {ou' : List Int} {co' eo' : Int} (h : OwS Θ (hdL o A F R D tp ou ct co eo K)) (t : Θ1 = uq Θ (A 3) (1, ou', co', eo')) : OwT Θ (hdL o A F R D tp ou ct co eo K) Θ1 (hdL o A F R D tp ou' ct co' eo' K) := sorry
theorem feF_len {a b c d e : Int} : ∀ n : Nat, len (feF a b c d e R n) = len R := sorry
theorem u_X1_feed {Q : Th → Prop} (hO : OwS Θ (hdL o A F R D tp ou ct co eo K)) (hF : FA F A) (hR : len R = 20) (hQ : ∀ Θ', OwT Θ (hdL o A F R D tp ou ct co eo K) Θ' (hdL o A F (feF l1 l2 l3 l4 l5 R 4) D tp ou ct co eo K) → Q Θ') : w2_X1_feed ω d G o l1 l2 l3 l4 l5 Θ Q := sorry
/-- how long the tape may get when so many come to it -/
def tpC (c m : Int) : Nat → Int
  | 0 => c
  | n + 1 => bC (tpC c m n) (m + (n : Int) + 1)
theorem tpC_ok {c m : Int} (hc : 16 ≤ c) (hm : 0 ≤ m) (hmc : m ≤ c) : ∀ n : Nat, 16 ≤ tpC c m n ∧ c ≤ tpC c m n ∧ m + (n : Int) ≤ tpC c m n ∧ tpC c m n ≤ max c (2 * (m + (n : Int))) ∧ ∀ k : Nat, k ≤ n → tpC c m k ≤ tpC c m n := sorry
/-- how much may come -/
def enOk (tp : List Int) (n : Int) : Bool := decide (0 ≤ n ∧ n ≤ 20 ∧ len tp + n ≤ 2000)
theorem u_X1_end {Q : Int → Th → Prop} (hd : 10 ≤ d) (hO : OwS Θ (hdL o A F R D tp ou ct co eo K)) (hF : FA F A) (hR : len R = 20) (hRb : ∀ k, 0 ≤ k → k < 20 → 0 ≤ gt R k ∧ gt R k < 256) (hl : inI l1) (hc : 16 ≤ ct ∧ len tp ≤ ct ∧ ct ≤ 4000) (htl : len tp ≤ 2000) (hG : (if enOk tp l1 = true then tpC ct (len tp) l1.toNat - ct else 0) ≤ (G : Int))
    (hQ0 : ¬ enOk tp l1 = true → Q (-1) Θ) (hQ : enOk tp l1 = true → ∀ Θ', OwT Θ (hdL o A F R D tp ou ct co eo K) Θ' (hdL o A F (List.replicate 20 0) D (tp ++ R.take l1.toNat) ou (tpC ct (len tp) l1.toNat) co eo K) → Q (len tp + l1) Θ') : w2_X1_end ω d G o l1 Θ Q := sorry
theorem u_X1_byteAt {Q : Int → Th → Prop} (hd : 5 ≤ d) (hO : OwS Θ (hdL o A F R D tp ou ct co eo K)) (hF : FA F A) (hl : inI l1) (hQ : Q (if 0 ≤ l1 ∧ l1 < len ou then gt ou l1 else -1) Θ) : w2_X1_byteAt ω d G o l1 Θ Q := sorry
theorem u_X1_take {Q : Int → Th → Prop} (hd : 9 ≤ d) (hO : OwS Θ (hdL o A F R D tp ou ct co eo K)) (hF : FA F A) (htl : len tp ≤ 2000) (hG : len tp + 5 ≤ (G : Int)) (hQ : ∀ x Θ', OwT Θ (hdL o A F R D tp ou ct co eo K) Θ' (hdL o A F R D [] ou ct co eo K) → Str Θ' x tp → 0 ≤ x → kd Θ x = 0 → Q x Θ') : w2_X1_take ω d G o Θ Q := sorry
theorem u_X1_told {Q : Int → Th → Prop} (hO : OwS Θ (hdL o A F R D tp ou ct co eo K)) (hF : FA F A) (hD : len D = 9) (hl : inI l1) (hQ : Q (if 0 ≤ l1 ∧ l1 < 9 then gt D l1 else -1) Θ) : w2_X1_told ω d G o l1 Θ Q := sorry
theorem u_X1_today {Q : Th → Prop} (hO : OwS Θ (hdL o A F R D tp ou ct co eo K)) (hl : inI l1) (hQ : ∀ Θ', OwT Θ (hdL o A F R D tp ou ct co eo K) Θ' (hdL o A (F.set 16 l1) R D tp ou ct co eo K) → Q Θ') : w2_X1_today ω d G o l1 Θ Q := sorry
theorem u_X1_fault {Q : Int → Th → Prop} (hO : OwS Θ (hdL o A F R D tp ou ct co eo K)) (hl : inI l1) (hQ : Q (if l1 = 0 then gt F 17 else if l1 = 1 then gt F 18 else -1) Θ) : w2_X1_fault ω d G o l1 Θ Q := sorry
end HDW

/-! 86.ac.lean.txt -/
/-! what is shown -/
set_option maxRecDepth 100000
set_option maxHeartbeats 2000000
/-- the bytes of a character -/
def utC (c : Int) : List Int := if c < 128 then [c] else if c < 2048 then [192 + c / 64, 128 + c % 64] else [224 + c / 4096, 128 + c / 64 % 64, 128 + c % 64]
theorem utC_len {c : Int} : 1 ≤ (utC c).length ∧ (utC c).length ≤ 3 := sorry
theorem utC_in {c : Int} (h : 0 ≤ c ∧ c < 65536) : ∀ x, x ∈ utC c → 0 ≤ x ∧ x < 256 := sorry
/-- what is shown of a text, and the room it takes: those characters that have room -/
def utT : List Int → List Int → List Int
  | ou, [] => ou
  | ou, c :: r => if len ou + len (utC c) ≤ 2000 then utT (ou ++ utC c) r else ou
def utK : Int → List Int → List Int → Int
  | co, _, [] => co
  | co, ou, c :: r => if len ou + len (utC c) ≤ 2000 then utK (tpC co (len ou) (utC c).length) (ou ++ utC c) r else co
theorem utT_c {ou r : List Int} {c : Int} : utT ou (c :: r) = if len ou + len (utC c) ≤ 2000 then utT (ou ++ utC c) r else ou := rfl
theorem utK_c {ou r : List Int} {c co : Int} : utK co ou (c :: r) = if len ou + len (utC c) ≤ 2000 then utK (tpC co (len ou) (utC c).length) (ou ++ utC c) r else co := rfl
theorem tpC1 {c m : Int} : tpC c m 1 = bC c (m + 1) := sorry
theorem tpC2 {c m : Int} : tpC c m 2 = bC (bC c (m + 1)) (m + 1 + 1) := sorry
theorem tpC3 {c m : Int} : tpC c m 3 = bC (bC (bC c (m + 1)) (m + 1 + 1)) (m + 1 + 1 + 1) := sorry
theorem utK_in : ∀ {l ou : List Int} {co : Int}, 16 ≤ co → len ou ≤ co → co ≤ 4000 → len ou ≤ 2000 → co ≤ utK co ou l ∧ utK co ou l ≤ 4000 ∧ len (utT ou l) ≤ utK co ou l ∧ len (utT ou l) ≤ 2000 := sorry
section SHO
variable {ω : AO} {d G : Nat} {Θ Θ1 : Th} {o l1 v x : Int} {A : Int → Int} {F R D tp ou : List Int} {ct co : Int} {K : List It}
theorem hwAp (h : OwS Θ (hdL o A F R D tp ou ct co 0 K)) (hv : v = A 3) (hx : 0 ≤ x ∧ x < 256) (t : Θ1 = uq Θ v (1, vv Θ v ++ [x % 65536], bC (cp Θ v) (len (vv Θ v) + 1), if x % 65536 ≤ 255 then cx Θ v else 1)) : OwT Θ (hdL o A F R D tp ou ct co 0 K) Θ1 (hdL o A F R D tp (ou ++ [x]) ct (bC co (len ou + 1)) 0 K) := sorry
theorem hwAg (h : OwS Θ (hdL o A F R D tp ou ct co 0 K)) (hv : v = A 3) (hx : 0 ≤ x ∧ x < 256) : bK (bC (cp Θ v) (len (vv Θ v) + 1)) (if x % 65536 ≤ 255 then cx Θ v else 1) - bK (cp Θ v) (cx Θ v) = bC co (len ou + 1) - co := sorry
theorem u_sc108 {Q : Int → Th → Prop} {n : Int} {g : Nat} (hd : 10 ≤ d) (hO : OwS Θ (hdL o A F R D tp ou ct co 0 K)) (hF : FA F A) (hc : 16 ≤ co ∧ co ≤ 10000) (hm : len ou ≤ 5000) (hn : 1 < n ∧ n ≤ 3) (hg : (g : Int) + (bC co (len ou + 1) - co) ≤ (G : Int)) (hQ : ∀ Θ', OwT Θ (hdL o A F R D tp ou ct co 0 K) Θ' (hdL o A F R D tp (ou ++ [128 + l1 % 64]) ct (bC co (len ou + 1)) 0 K) → Q 1 Θ') : W2_X1_showCharacter_108 ω d G o l1 n g Θ Q := sorry
theorem u_sc78 {Q : Int → Th → Prop} {n s0 : Int} {g : Nat} (hd : 10 ≤ d) (hO : OwS Θ (hdL o A F R D tp ou ct co 0 K)) (hF : FA F A) (hl : 0 ≤ l1 ∧ l1 < 65536) (hv : v = A 3) (hc : 16 ≤ co ∧ co ≤ 4000) (hcm : len ou ≤ co) (hm : len ou ≤ 2000) (hs : s0 :: (if n = 3 then [128 + l1 / 64 % 64, 128 + l1 % 64] else if n = 2 then [128 + l1 % 64] else []) = utC l1) (hsn : 0 ≤ s0 ∧ s0 < 256) (hn : n = len (utC l1)) (hg : (g : Int) + (tpC co (len ou) (utC l1).length - co) ≤ (G : Int)) (hQ : ∀ Θ', OwT Θ (hdL o A F R D tp ou ct co 0 K) Θ' (hdL o A F R D tp (ou ++ utC l1) ct (tpC co (len ou) (utC l1).length) 0 K) → Q 1 Θ') : W2_X1_showCharacter_78 ω d G o l1 n s0 v g Θ Q := sorry
theorem u_X1_showCharacter {Q : Int → Th → Prop} (hd : 10 ≤ d) (hO : OwS Θ (hdL o A F R D tp ou ct co 0 K)) (hF : FA F A) (hl : 0 ≤ l1 ∧ l1 < 65536) (hc : 16 ≤ co ∧ co ≤ 4000) (hcm : len ou ≤ co) (hm : len ou ≤ 2000) (hG : (if len ou + len (utC l1) ≤ 2000 then tpC co (len ou) (utC l1).length - co else 0) ≤ (G : Int))
    (hQ0 : ¬ len ou + len (utC l1) ≤ 2000 → Q 0 Θ) (hQ : len ou + len (utC l1) ≤ 2000 → ∀ Θ', OwT Θ (hdL o A F R D tp ou ct co 0 K) Θ' (hdL o A F R D tp (ou ++ utC l1) ct (tpC co (len ou) (utC l1).length) 0 K) → Q 1 Θ') : w2_X1_showCharacter ω d G o l1 Θ Q := sorry
end SHO

/-! 86.ad.lean.txt -/
/-! what is shown: bytes, texts, letters -/
set_option maxRecDepth 100000
set_option maxHeartbeats 2000000
/-- a string or null; a text or null -/
def opS (Θ : Th) (x : Int) : Option (List Int) → Prop
  | none => x < 0
  | some m => Str Θ x m
def opT (Θ : Th) (x : Int) : Option (List Int) → Prop
  | none => x < 0
  | some m => TxO Θ x m
theorem opS.le {Θ Θ1 : Th} {x : Int} {q : Option (List Int)} (h : opS Θ x q) (L : Le Θ Θ1) : opS Θ1 x q := sorry
theorem TxO.kd {Θ : Th} {x : Int} {m : List Int} (h : TxO Θ x m) : kd Θ x = 20 := by obtain ⟨c, e, h⟩ := h; exact kd_of h.2
theorem opT.le {Θ Θ1 : Th} {x : Int} {q : Option (List Int)} (h : opT Θ x q) (L : Le Θ Θ1) : opT Θ1 x q := sorry
/-- what is shown of bytes: output, its room, the answer -/
def xbF (ou : List Int) (co : Int) : Option (List Int) → List Int × Int × Int
  | none => (ou, co, -1)
  | some m => (sub m 0 (min 2000 (len m)), bC co (min 2000 (len m)), min 2000 (len m))
def xtF (ou : List Int) (co : Int) : Option (List Int) → List Int × Int × Int
  | none => (ou, co, -1)
  | some m => (utT [] m, utK co [] m, len (utT [] m))
section SHB
variable {ω : AO} {d G : Nat} {Θ Θ1 : Th} {o l1 : Int} {A : Int → Int} {F R D tp ou : List Int} {ct co : Int} {K : List It} {q : Option (List Int)}
theorem hwE {v : Int} (h : OwS Θ (hdL o A F R D tp ou ct co 0 K)) (hv : v = A 3) (t : Θ1 = uq Θ v (1, (vv Θ v).take ((0 : Int)).toNat, cp Θ v, cx Θ v)) : OwT Θ (hdL o A F R D tp ou ct co 0 K) Θ1 (hdL o A F R D tp [] ct co 0 K) := by
  rw [hv, hv4 h, hp4 h, hx4 h] at t
  exact hwO h t
theorem u_X1_ap4 {Q : Int → Th → Prop} {m : List Int} {n : Int} (hd : 5 ≤ d) (hO : OwS Θ (hdL o A F R D tp [] ct co 0 K)) (hs : Str Θ l1 m) (hw : wide m = 0) (hn : 0 ≤ n ∧ n ≤ len m) (hc : bC co n ≤ 20000000) (hG : bC co n - co ≤ (G : Int)) (hQ : ∀ Θ', OwT Θ (hdL o A F R D tp [] ct co 0 K) Θ' (hdL o A F R D tp (sub m 0 n) ct (bC co n) 0 K) → Q (A 3) Θ') : w2_J1_append_4 ω d G (A 3) l1 0 n Θ Q := sorry
theorem u_X1_showBytes {Q : Int → Th → Prop} (hd : 10 ≤ d) (hO : OwS Θ (hdL o A F R D tp ou ct co 0 K)) (hF : FA F A) (hl : opS Θ l1 q) (hw : ∀ m, q = some m → wide m = 0) (hc : 16 ≤ co ∧ co ≤ 4000) (hG : (xbF ou co q).2.1 - co ≤ (G : Int))
    (hQ : ∀ Θ', OwT Θ (hdL o A F R D tp ou ct co 0 K) Θ' (hdL o A F R D tp (xbF ou co q).1 ct (xbF ou co q).2.1 0 K) → Q (xbF ou co q).2.2 Θ') : w2_X1_showBytes ω d G o l1 Θ Q := sorry
theorem u_X1_showText {Q : Int → Th → Prop} (hd : 13 ≤ d) (hO : OwS Θ (hdL o A F R D tp ou ct co 0 K)) (hF : FA F A) (hl : opT Θ l1 q) (hw : ∀ m, q = some m → ∀ x, x ∈ m → 0 ≤ x ∧ x < 65536) (hc : 16 ≤ co ∧ co ≤ 4000) (hG : (xtF ou co q).2.1 - co ≤ (G : Int))
    (hQ : ∀ Θ', OwT Θ (hdL o A F R D tp ou ct co 0 K) Θ' (hdL o A F R D tp (xtF ou co q).1 ct (xtF ou co q).2.1 0 K) → Q (xtF ou co q).2.2 Θ') : w2_X1_showText ω d G o l1 Θ Q := sorry
theorem u_X1_showLetters {Q : Int → Th → Prop} (hd : 13 ≤ d) (hO : OwS Θ (hdL o A F R D tp ou ct co 0 K)) (hF : FA F A) (hl : opS Θ l1 q) (hc : 16 ≤ co ∧ co ≤ 4000) (hG : (xtF ou co q).2.1 - co ≤ (G : Int))
    (hQ : ∀ Θ', OwT Θ (hdL o A F R D tp ou ct co 0 K) Θ' (hdL o A F R D tp (xtF ou co q).1 ct (xtF ou co q).2.1 0 K) → Q (xtF ou co q).2.2 Θ') : w2_X1_showLetters ω d G o l1 Θ Q := sorry
end SHB

/-! 86.ae.lean.txt -/
/-! readers: of, at, found, tagOf, pieceOf, boxOf -/
set_option maxRecDepth 100000
set_option maxHeartbeats 2000000
/-- what lies at a place, if anything does -/
def oA {α : Type} (xs : List α) (i : Int) : Option α := if 0 ≤ i then xs[i.toNat]? else none
theorem oA_of {α : Type} {P : Int → α → Prop} {rs : List Int} {xs : List α} {i : Int} (h : all2 P rs xs) : (oA xs i = none ∧ atI rs i = -1) ∨ ∃ x, oA xs i = some x ∧ P (atI rs i) x ∧ (0 ≤ i ∧ i < len rs) ∧ atI rs i = gt rs i := sorry
/-- the i-th piece that is no address -/
def poF : List Pc → Int → Option (List Int)
  | [], _ => none
  | p :: r, i => if p.2.2.2 = true then poF r i else if i = 0 then some p.1 else poF r (i - 1)
theorem poF_c {p : Pc} {r : List Pc} {i : Int} : poF (p :: r) i = if p.2.2.2 = true then poF r i else if i = 0 then some p.1 else poF r (i - 1) := rfl
section RDR
variable {ω : AO} {d G : Nat} {Θ Θ1 : Th} {o a l1 l2 c e : Int} {F ML l rs : List Int} {q : Option (List Int)}
theorem u_X1_of {Q : Int → Th → Prop} (hd : 3 ≤ d) (h : xo Θ a = (3, l, c, e)) (hl : inI l1) (hQ : -1 ≤ atI l l1 → Q (atI l l1) Θ) : w2_X1_of ω d G a l1 Θ Q := sorry
theorem u_X1_at {Q : Int → Th → Prop} (hd : 3 ≤ d) (ho : xo Θ o = (15, F, 0, 0)) (hm : xo Θ (gt F 6) = (3, ML, c, e)) (hk : ∀ k, 0 ≤ k → k < len ML → kd Θ (gt ML k) = 29) (hl : inI l1) (hQ : -1 ≤ atI ML l1 → Q (atI ML l1) Θ) : w2_X1_at ω d G o l1 Θ Q := sorry
theorem u_X1_found {Q : Int → Th → Prop} {f : Int} {D : List Int} (hd : 3 ≤ d) (ho : xo Θ o = (15, F, 0, 0)) (hm : xo Θ (gt F 11) = (3, rs, c, e)) (hk : all2 (IntO Θ) rs D) (hl : inI l1) (hQ : Q (atI D l1) Θ) : w2_X1_found ω d G o l1 Θ Q := sorry
theorem u_X1_tagOf {Q : Int → Th → Prop} {m p q1 c1 c2 : Int} {ks : List (List Int)} {vs : List Int} (hd : 4 ≤ d) (h : xo Θ m = (29, F, 0, 0)) (ht : SoO Θ (gt F 5) p q1 ks vs c1 c2) (hl : inI l1) (hQ : ∀ x, opS Θ x (oA ks l1) → -1 ≤ x → Q x Θ) : w2_X1_tagOf ω d G m l1 Θ Q := sorry
theorem u_X1_pieceOf {Q : Int → Th → Prop} {v : FdV} (hd : 4 ≤ d) (h : FdX Θ a v) (hl : inI l1) (hQ : ∀ x, opS Θ x (poF v.1 l1) → -1 ≤ x → Q x Θ) : w2_X1_pieceOf ω d G a l1 Θ Q := sorry
/-- a title or an address that is shown -/
def mbT (t : Int) (v : Mb) : List Int := if t = 0 then shA v else shT v
theorem u_X1_boxOf {Q : Int → Th → Prop} {xs : List Mb} (hd : 4 ≤ d) (h : LxO MbX Θ a xs) (hl : inI l1) (h2 : inI l2) (hQ : ∀ x, opT Θ x ((oA xs l1).map (mbT l2)) → Q x Θ) : w2_X1_boxOf ω d G a l1 l2 Θ Q := sorry
end RDR

/-! 86.af.lean.txt -/
/-! a mail as it is seen; mail, date, show -/
set_option maxRecDepth 100000
set_option maxHeartbeats 4000000
/-- fields, key, bytes, places, tags -/
abbrev MaR : Type := List Int × List Int × List Int × List (Int × Int) × List (List Int)
def MaV (Θ : Th) (m : Int) (r : MaR) (nm : Int → List Int) (fl : Int → Int) : Prop :=
  xo Θ m = (29, r.1, 0, 0) ∧ Str Θ (gt r.1 1) r.2.1 ∧ Str Θ (gt r.1 2) r.2.2.1 ∧ CtO Θ (gt r.1 3) r.2.2.1 ∧ (∃ rs c e, xo Θ (gt r.1 4) = (3, rs, c, e) ∧ all2 (PlO Θ) rs r.2.2.2.1) ∧ (∀ p, p ∈ r.2.2.2.1 → FlO Θ p.1 (fl p.1) ∧ NmO Θ p.1 (nm p.1)) ∧ ∃ p q vs c1 c2, SoO Θ (gt r.1 5) p q r.2.2.2.2 vs c1 c2
/-- the works and their mails -/
def WsV (Θ : Th) (o : Int) (F ML : List Int) (M : Int → MaR) (nm : Int → List Int) (fl : Int → Int) : Prop :=
  xo Θ o = (15, F, 0, 0) ∧ (∃ c e, xo Θ (gt F 6) = (3, ML, c, e)) ∧ ∀ k, 0 ≤ k → k < len ML → MaV Θ (gt ML k) (M k) nm fl
def ctRf (b : List Int) : List (List Int) := reF (vlF (ctH b) REFS) (vlF (ctH b) INRT)
def ctBs (b : List Int) : List Int := baF (smS (ctSj b))
def maN (fl : Int → Int) (r : MaR) (w : Int) : Int :=
  if w = 0 then (r.2.2.2.1.length : Int) else if w = 1 then len r.2.1 else if w = 2 then len r.2.2.1 else if w = 3 then flA fl r.2.2.2.1 0 else if w = 4 then ftF (flA fl r.2.2.2.1 0) (!r.2.2.2.1.isEmpty) else if w = 5 then (r.2.2.2.2.length : Int) else if w = 6 then ((ptE r.2.2.1).length : Int) else if w = 7 then ((ctTx r.2.2.1).length : Int) else if w = 8 then ((ctA r.2.2.1).length : Int) else if w = 9 then ((ctRf r.2.2.1).length : Int) else
  match oA (ctFd r.2.2.1) (w - 10) with
  | none => -1
  | some v => v.2.2.1
section MAV
variable {ω : AO} {d G : Nat} {Θ Θ1 : Th} {o l1 l2 l3 : Int} {F ML : List Int} {M : Int → MaR} {nm : Int → List Int} {fl : Int → Int} {r : MaR} {m : Int}
theorem WsV.k29 (h : WsV Θ o F ML M nm fl) : ∀ k, 0 ≤ k → k < len ML → kd Θ (gt ML k) = 29 := fun k h0 h1 => kd_of (h.2.2 k h0 h1).1
theorem oA_out {α : Type} {xs : List α} {i : Int} (h : i < 0 ∨ (xs.length : Int) ≤ i) : oA xs i = none := sorry
theorem MaV.le (h : MaV Θ m r nm fl) (B : Bl Θ) : 0 ≤ m := sorry
theorem maN_d {w : Int} (h : w < 0 ∨ 9 < w) : maN fl r w = match oA (ctFd r.2.2.1) (w - 10) with
  | none => -1
  | some v => v.2.2.1 := sorry
theorem u_X1_mail {Q : Int → Th → Prop} (hd : 14 ≤ d) (h : WsV Θ o F ML M nm fl) (hl : inI l1) (h2 : inI l2) (hQ : Q (if 0 ≤ l1 ∧ l1 < len ML then maN fl (M l1) l2 else -1) Θ) : w2_X1_mail ω d G o l1 l2 Θ Q := sorry
theorem u_X1_date {Q : Int → Th → Prop} (hd : 6 ≤ d) (h : WsV Θ o F ML M nm fl) (hl : inI l1) (hQ : Q (if 0 ≤ l1 ∧ l1 < len ML then dtF (ctH (M l1).2.2.1) else -9223372036854775808) Θ) : w2_X1_date ω d G o l1 Θ Q := sorry
end MAV

/-! 86.ag.lean.txt -/
/-! show -/
set_option maxRecDepth 100000
set_option maxHeartbeats 4000000
def neO (m : List Int) : Option (List Int) := if m = [] then none else some m
def sjO (b : List Int) : Option (List Int) :=
  match fdF (ctH b) SUBN with
  | none => none
  | some _ => some (ctSj b)
/-- what is shown: output, its room, the answer -/
def swF (nm : Int → List Int) (ou : List Int) (co : Int) (r : MaR) (w i : Int) : List Int × Int × Int :=
  if w = 0 then xbF ou co (neO r.2.1) else if w = 1 then xbF ou co ((oA r.2.2.2.1 i).map (fun p => nm p.1)) else if w = 2 then xbF ou co (oA r.2.2.2.2 i) else if w = 3 then xbF ou co (oA (ctRf r.2.2.1) i) else
  if w = 4 then xtF ou co ((oA (ctFr r.2.2.1) i).map (mbT 1)) else if w = 5 then xtF ou co ((oA (ctFr r.2.2.1) i).map (mbT 0)) else if w = 6 then xtF ou co ((oA (ctTo r.2.2.1) i).map (mbT 1)) else if w = 7 then xtF ou co ((oA (ctTo r.2.2.1) i).map (mbT 0)) else
  if w = 8 then xtF ou co (sjO r.2.2.1) else if w = 9 then xtF ou co (oA (ctTx r.2.2.1) i) else if w = 10 then xtF ou co (oA (nmL (ptE r.2.2.1) (ctA r.2.2.1)) i) else if w = 11 then xbF ou co ((oA (ptE r.2.2.1) i).map evTy) else if w = 17 then xtF ou co (neO (ctBs r.2.2.1)) else
  match oA (ctFd r.2.2.1) (w - 12) with
  | none => (ou, co, -1)
  | some v => xtF ou co (poF v.1 i)
/-- what must hold of a mail -/
def mwW (nm : Int → List Int) (r : MaR) : Prop := wide r.2.1 = 0 ∧ (∀ p, p ∈ r.2.2.2.1 → wide (nm p.1) = 0) ∧ (∀ t, t ∈ r.2.2.2.2 → wide t = 0) ∧ (∀ t, t ∈ ctRf r.2.2.1 → wide t = 0) ∧ (∀ v, v ∈ ptE r.2.2.1 → wide (evTy v) = 0) ∧ (∀ t, t ∈ ctTx r.2.2.1 → ∀ x, x ∈ t → 0 ≤ x ∧ x < 65536) ∧ (ctH r.2.2.1).length ≤ 1000000
theorem oA_mem {α : Type} {xs : List α} {i : Int} {x : α} (h : oA xs i = some x) : x ∈ xs := sorry
section SHW
variable {ω : AO} {d G : Nat} {Θ Θ1 : Th} {o l1 l2 l3 : Int} {A : Int → Int} {F R D tp ou ML : List Int} {ct co : Int} {K : List It} {M : Int → MaR} {nm : Int → List Int} {fl : Int → Int} {r : MaR}
theorem swF_d {w i : Int} (h : w < 0 ∨ 11 < w) (h2 : w ≠ 17) : swF nm ou co r w i = match oA (ctFd r.2.2.1) (w - 12) with
  | none => (ou, co, -1)
  | some v => xtF ou co (poF v.1 i) := sorry
theorem u_X1_show {Q : Int → Th → Prop} {sw : List Int × Int × Int} (hd : 18 ≤ d) (hO : OwS Θ (hdL o A F R D tp ou ct co 0 K)) (hF : FA F A) (h : WsV Θ o F ML M nm fl) (hl : inI l1) (h2 : inI l2) (h3 : inI l3) (hc : 16 ≤ co ∧ co ≤ 4000) (hW : ∀ k, 0 ≤ k → k < len ML → mwW nm (M k)) (hsw : sw = if 0 ≤ l1 ∧ l1 < len ML then swF nm ou co (M l1) l2 l3 else (ou, co, -1)) (hG : sw.2.1 - co ≤ (G : Int))
    (hQ : ∀ Θ', OwT Θ (hdL o A F R D tp ou ct co 0 K) Θ' (hdL o A F R D tp sw.1 ct sw.2.1 0 K) → Q sw.2.2 Θ') : w2_X1_show ω d G o l1 l2 l3 Θ Q := sorry
end SHW

/-! 86.ah.lean.txt -/
/-! new tags, lines of a dump, which mails are there -/
set_option maxRecDepth 100000
set_option maxHeartbeats 2000000
/-- no mail ahead has it -/
def ntgB (M : Int → MaR) (t : List Int) (n : Int) : Bool := (List.range n.toNat).all (fun j => !isK (M (j : Int)).2.2.2.2 t)
theorem ntgB_t {M : Int → MaR} {t : List Int} {n : Int} (h : ∀ j, 0 ≤ j → j < n → ¬ isK (M j).2.2.2.2 t = true) : ntgB M t n = true := sorry
theorem ntgB_f {M : Int → MaR} {t : List Int} {n j : Int} (h0 : 0 ≤ j) (h1 : j < n) (h : isK (M j).2.2.2.2 t = true) : ntgB M t n = false := sorry
/-- whether a line is ahead -/
def ahB (r r' : MaR) : Bool := decide (cmpL r.2.1 r'.2.1 < 0) || (decide (cmpL r.2.1 r'.2.1 = 0) && decide (gt r.1 0 < gt r'.1 0))
/-- the next line's mail, among the first ones -/
def nlF (M : Int → MaR) (last : Int) : Nat → Int
  | 0 => -1
  | k + 1 => if (M (k : Int)).2.1 = [] ∨ (M (k : Int)).2.2.2.2 = [] ∨ (0 ≤ last ∧ ¬ ahB (M last) (M (k : Int)) = true) then nlF M last k else if nlF M last k < 0 ∨ ahB (M (k : Int)) (M (nlF M last k)) = true then (k : Int) else nlF M last k
theorem nlF_in {M : Int → MaR} {last : Int} : ∀ k : Nat, nlF M last k = -1 ∨ (0 ≤ nlF M last k ∧ nlF M last k < (k : Int)) := sorry
/-- how long a line gets -/
def llA (x : Int) : List (List Int) → Int
  | [] => x
  | t :: r => llA (x + (1 + len t)) r
theorem llA_ge : ∀ {ts : List (List Int)} {x : Int}, x ≤ llA x ts := sorry
def thF (M : Int → MaR) (n : Int) : Int → Bool := fun j => decide (0 ≤ j ∧ j < n) && !(M j).2.2.2.1.isEmpty
section NTA
variable {ω : AO} {d G : Nat} {Θ Θ1 : Th} {o l1 l2 l3 a a' : Int} {F ML : List Int} {M : Int → MaR} {nm : Int → List Int} {fl : Int → Int} {r r' : MaR} {m : Int} {t : List Int}
theorem u_X1_isNewTag {Q : Int → Th → Prop} (hd : 9 ≤ d) (h : WsV Θ o F ML M nm fl) (hs : Str Θ l1 t) (hl : 0 ≤ l2 ∧ l2 ≤ len ML) (hi : l2 < 2147483648) (hk : ∀ k, 0 ≤ k → k < len ML → (M k).2.2.2.2.length ≤ 1000000) (hQ : ∀ z, z = (if ntgB M t l2 = true then 1 else 0) → Q z Θ) : w2_X1_isNewTag ω d G o l1 l2 Θ Q := sorry
theorem u_X1_isAhead {Q : Int → Th → Prop} (hd : 6 ≤ d) (h : MaV Θ a r nm fl) (h2 : MaV Θ a' r' nm fl) (hQ : ∀ z, z = (if ahB r r' = true then 1 else 0) → Q z Θ) : w2_X1_isAhead ω d G a a' Θ Q := sorry
theorem u_X1_nextLine {Q : Int → Th → Prop} {last : Int} (hd : 8 ≤ d) (h : WsV Θ o F ML M nm fl) (hl : (last < 0 ∧ l1 = -1) ∨ (0 ≤ last ∧ last < len ML ∧ l1 = gt ML last)) (hQ : Q (if nlF M last ML.length < 0 then -1 else gt ML (nlF M last ML.length)) Θ) : w2_X1_nextLine ω d G o l1 Θ Q := sorry
theorem u_X1_lineLength {Q : Int → Th → Prop} (hd : 6 ≤ d) (h : MaV Θ a r nm fl) (hB : llA (len r.2.1 + 1) r.2.2.2.2 < 2147483648) (hQ : Q (llA (len r.2.1 + 1) r.2.2.2.2) Θ) : w2_X1_lineLength ω d G a Θ Q := sorry
end NTA

/-! 86.ai.lean.txt -/
/-! there, counts, segments -/
set_option maxRecDepth 100000
set_option maxHeartbeats 2000000
/-- how many places the mails have -/
def plS (M : Int → MaR) : Nat → Int
  | 0 => 0
  | k + 1 => plS M k + ((M (k : Int)).2.2.2.1.length : Int)
theorem plS_ge {M : Int → MaR} : ∀ k n : Nat, k ≤ n → 0 ≤ plS M k ∧ plS M k ≤ plS M n := sorry
/-- how many tags are new with a mail, and with all -/
def ntgC (M : Int → MaR) (k x : Int) : List (List Int) → Int
  | [] => x
  | t :: r => ntgC M k (x + (if ntgB M t k = true then 1 else 0)) r
def ntN (M : Int → MaR) : Nat → Int
  | 0 => 0
  | k + 1 => ntgC M (k : Int) (ntN M k) (M (k : Int)).2.2.2.2
theorem ntgC_ge {M : Int → MaR} {k : Int} : ∀ {ts : List (List Int)} {x : Int}, x ≤ ntgC M k x ts := sorry
theorem ntN_ge {M : Int → MaR} : ∀ k n : Nat, k ≤ n → 0 ≤ ntN M k ∧ ntN M k ≤ ntN M n := sorry
section THR
variable {ω : AO} {d G : Nat} {Θ Θ1 : Th} {o l1 l2 l3 a a' : Int} {F ML : List Int} {M : Int → MaR} {nm : Int → List Int} {fl : Int → Int} {r r' : MaR} {m : Int} {t : List Int}
theorem MaV.gr (h : MaV Θ m r nm fl) (g : Gr Θ Θ1) : MaV Θ1 m r nm fl := sorry
theorem WsV.gr (h : WsV Θ o F ML M nm fl) (g : Gr Θ Θ1) : WsV Θ1 o F ML M nm fl := sorry
theorem u_X1_there {Q : Int → Th → Prop} (hd : 6 ≤ d) (h : WsV Θ o F ML M nm fl) (hn : len ML ≤ 250) (hG : 3 ≤ G) (hQ : ∀ x c Θ', Gr Θ Θ' → BtO Θ' x c 4 (thF M (len ML)) → kd Θ x = 0 → kd Θ c = 0 → -1 ≤ x → Q x Θ') : w2_X1_there ω d G o Θ Q := sorry
theorem u_X1_count83 {Q : Int → Th → Prop} (hd : 4 ≤ d) (h : WsV Θ o F ML M nm fl) (hB : plS M ML.length < 2147483648) (hQ : Q (plS M ML.length) Θ) : W2_X1_count_83 ω d G o 0 0 0 Θ Q := sorry
theorem u_X1_count182 {Q : Int → Th → Prop} (hd : 11 ≤ d) (h : WsV Θ o F ML M nm fl) (hn : len ML ≤ 250) (hB : ntN M ML.length < 2147483648) (hk : ∀ k, 0 ≤ k → k < len ML → (M k).2.2.2.2.length ≤ 1000000) (hQ : Q (ntN M ML.length) Θ) : W2_X1_count_182 ω d G o 0 0 0 Θ Q := sorry
end THR

/-! 86.aj.lean.txt -/
/-! thread: blocks of items; rows -/
set_option maxRecDepth 100000
set_option maxHeartbeats 4000000
/-- items by number -/
def blk (N : Nat) (g : Int → It) : List It := (List.range N).map (fun (n : Nat) => g (n : Int))
section BLK
variable {N : Nat} {g g' : Int → It} {n : Int} {K : List It}
theorem blk_len : (blk N g).length = N := by unfold blk; rw [List.length_map, List.length_range]
theorem blk_at (h0 : 0 ≤ n) (h1 : n < (N : Int)) : (blk N g)[n.toNat]? = some (g n) := sorry
theorem blk_ext (h : ∀ j, 0 ≤ j → j < (N : Int) → g j = g' j) : blk N g = blk N g' := sorry
theorem blk_set (h0 : 0 ≤ n) (h1 : n < (N : Int)) (hg : ∀ j, 0 ≤ j → j < (N : Int) → j ≠ n → g j = g' j) : (blk N g).set n.toNat (g' n) = blk N g' := sorry
theorem blk_atK (h0 : 0 ≤ n) (h1 : n < (N : Int)) : (blk N g ++ K)[n.toNat]? = some (g n) := sorry
theorem blk_setK (h0 : 0 ≤ n) (h1 : n < (N : Int)) (hg : ∀ j, 0 ≤ j → j < (N : Int) → j ≠ n → g j = g' j) : (blk N g ++ K).set n.toNat (g' n) = blk N g' ++ K := sorry
theorem blk_past {i : Nat} : (blk N g ++ K)[i + N]? = K[i]? := sorry
theorem blk_pastS {i : Nat} {x : It} : (blk N g ++ K).set (i + N) x = blk N g ++ K.set i x := sorry
theorem blk_succ : blk (N + 1) g = blk N g ++ [g (N : Int)] := sorry
end BLK
/-- all that conversations see -/
def mwR (o : Int) (A : Int → Int) (R D tp ou : List Int) (ct co eo : Int) (ML : List Int) (cl : Int) (N : Nat) (ma : Int → Int) (mf pls : Int → List Int) (pc : Int → Int) (REST : List It) (F : List Int) (x : Int → Int) (rw : List Int) (cr : Int) : List It :=
  hdL o A F R D tp ou ct co eo (lsI (A 13) rw cr :: lsI (A 6) ML cl :: (blk N (fun n => obj (ma n) (29, (mf n).set 10 (x n), 0, 0)) ++ (blk N (fun n => lsI (gt (mf n) 4) (pls n) (pc n)) ++ REST)))
/-- a box takes a row's number -/
def rbX (X : Hx) (a v : Int) : Hx := (X.1, X.2.1, X.2.2.1, X.2.2.2.1, X.2.2.2.2.1, fup X.2.2.2.2.2.1 a ((X.2.2.2.2.2.1 a).1, (X.2.2.2.2.2.1 a).2.1, (X.2.2.2.2.2.1 a).2.2.1, (X.2.2.2.2.2.1 a).2.2.2.1, (X.2.2.2.2.2.1 a).2.2.2.2.1, (X.2.2.2.2.2.1 a).2.2.2.2.2.1, v), X.2.2.2.2.2.2)
def rbN (X : Hx) (l : List Int) : Nat → Hx
  | 0 => X
  | k + 1 => rbX (rbN X l k) (gt X.1 (gt l (k : Int))) (k : Int)
theorem rbN_1 {X : Hx} {l : List Int} : ∀ k : Nat, (rbN X l k).1 = X.1 ∧ (rbN X l k).2.1 = X.2.1 ∧ (rbN X l k).2.2.1 = X.2.2.1 ∧ (rbN X l k).2.2.2.1 = X.2.2.2.1 ∧ (rbN X l k).2.2.2.2.1 = X.2.2.2.2.1 ∧ (rbN X l k).2.2.2.2.2.2 = X.2.2.2.2.2.2
  | 0 => ⟨rfl, rfl, rfl, rfl, rfl, rfl⟩
  | k + 1 => rbN_1 k
/-- rows know where they stand -/
def RwB (W : List Int) (β : Int → BxR) (l : List Int) (k : Int) : Prop := ∀ i, 0 ≤ i → i < k → (β (gt W (gt l i))).2.2.2.2.2.2 = i
theorem rbN_row {X : Hx} {l : List Int} {n : Int} (hW : X.1.Nodup) (hl : l.Nodup) (hi : ∀ x, x ∈ l → 0 ≤ x ∧ x < len X.1) : ∀ k : Nat, (k : Int) ≤ len l → RwB X.1 (rbN X l k).2.2.2.2.2.1 l (k : Int) := sorry
section THD
variable {ω : AO} {d G : Nat} {Θ Θ1 : Th} {o oc l1 b v y Y0c cy : Int} {CF CF0 : List Int} {R R2 : List It} {s : Cw} {X : Hx} {ma : Int → Int} {kp : List Int → Int} {ko : Int → Int} {i iy : Nat} {r5 r6 r7 r8 r9 ρ Y0 : List Int} {c4 c5 c6 c7 c8 c9 : Int} {Aq : Int → Prop} {t : Nat} {a k cc e : Int} {l : List Int} {Kg : Fo → Prop}
theorem CwG.obj (I : CwG Kg Θ o CF R s X ma kp ko) (hi : R[i]? = some (obj a (t, l, cc, e))) (ht : 0 < t) (tt : Θ1 = pf Θ a k v) : OwT Θ (cwL o CF R s X) Θ1 (cwL o CF (R.set i (obj a (t, l.set k.toNat v, cc, e))) s X) ∧ CwG Kg Θ1 o CF (R.set i (obj a (t, l.set k.toNat v, cc, e))) s X ma kp ko := sorry
theorem PoO.row {s : Cv} {W U O : List Int} {tk : Int} {M : List Int → Int} {β : Int → BxR} {r : BxR} (h : PoO s W U O tk M β) (ha : a ∈ W) : PoO s W U O tk M (fup β a r) := sorry
theorem FoB.row2 {W : List Int} {s : Fo} {β : Int → BxR} {r : BxR} (h : FoB W ma s β) (h1 : r.1 = (β a).1) (h2 : r.2.1 = (β a).2.1) (h3 : r.2.2.1 = (β a).2.2.1) (h4 : r.2.2.2.1 = (β a).2.2.2.1) : FoB W ma s (fup β a r) := sorry
/-- a row's number is written into its box -/
theorem CwG.rb (I : CwG foDm Θ o CF R s X ma kp ko) (hb : 0 ≤ b ∧ b < s.1.2.1) (tt : Θ1 = pf Θ (gt X.1 b) 6 v) : OwT Θ (cwL o CF R s X) Θ1 (cwL o CF R s (rbX X (gt X.1 b) v)) ∧ CwG foDm Θ1 o CF R s (rbX X (gt X.1 b) v) ma kp ko := sorry
/-- the rows are listed into a list of others -/
theorem u_cw_listY {Q : Th → Prop} (hd : 10 ≤ d) (I : CwG foDm Θ o CF (cvR CF0 (ρ.map (gt X.1)) r5 r6 r7 r8 r9 c4 c5 c6 c7 c8 c9 R2) s X ma kp ko) (gCF : ∀ j, 0 ≤ j → j ≠ 3 → gt CF j = gt CF0 j) (hL : foLk s.1.2 ρ Aq) (hn : s.1.2.1 < 1000000) (hc6 : c6 = 0 ∨ 10 ≤ c6) (hm6 : c6 ≤ 3000000) (hy : R2[iy]? = some (lsI y Y0 cy)) (hcy : cy = 0 ∨ 10 ≤ cy) (hcy2 : cy ≤ 3000000) (hG : 2 * (2 * s.1.2.1 + 10) ≤ (G : Int))
    (hQ : ∀ Θ' cy' c6', OwT Θ (cwL o CF (cvR CF0 (ρ.map (gt X.1)) r5 r6 r7 r8 r9 c4 c5 c6 c7 c8 c9 R2) s X) Θ' (cwL o CF (cvR CF0 (ρ.map (gt X.1)) r5 [] r7 r8 r9 c4 c5 c6' c7 c8 c9 (R2.set iy (lsI y ((liZ s.1.2 ρ).map (gt X.1)) cy'))) s X) → CwG foDm Θ' o CF (cvR CF0 (ρ.map (gt X.1)) r5 [] r7 r8 r9 c4 c5 c6' c7 c8 c9 (R2.set iy (lsI y ((liZ s.1.2 ρ).map (gt X.1)) cy'))) s X ma kp ko →
      ((cy' = 0 ∨ 10 ≤ cy') ∧ cy' ≤ max cy (2 * s.1.2.1 + 10)) → ((c6' = 0 ∨ 10 ≤ c6') ∧ c6' ≤ max c6 (2 * s.1.2.1 + 10)) → Q Θ') : w2_X10_list ω d G o y Θ Q := sorry
end THD

/-! 86.ak.lean.txt -/
/-! thread -/
set_option maxRecDepth 100000
set_option maxHeartbeats 4000000
section MWI
variable {o : Int} {A : Int → Int} {R D tp ou ML F rw : List Int} {ct co eo cl cr b n : Int} {N : Nat} {ma : Int → Int} {mf ps : Int → List Int} {pc x : Int → Int} {REST : List It}
theorem mwR_m (h0 : 0 ≤ n) (h1 : n < (N : Int)) : (mwR o A R D tp ou ct co eo ML cl N ma mf ps pc REST F x rw cr)[n.toNat + 7]? = some (obj (ma n) (29, (mf n).set 10 (x n), 0, 0)) := sorry
theorem mwR_ms (h0 : 0 ≤ n) (h1 : n < (N : Int)) : (mwR o A R D tp ou ct co eo ML cl N ma mf ps pc REST F x rw cr).set (n.toNat + 7) (obj (ma n) (29, (mf n).set 10 b, 0, 0)) = mwR o A R D tp ou ct co eo ML cl N ma mf ps pc REST F (fup x n b) rw cr := sorry
theorem mwR_p (h0 : 0 ≤ n) (h1 : n < (N : Int)) : (mwR o A R D tp ou ct co eo ML cl N ma mf ps pc REST F x rw cr)[(n.toNat + N) + 7]? = some (lsI (gt (mf n) 4) (ps n) (pc n)) := sorry
end MWI
section T41
variable {ω : AO} {d G : Nat} {Θ0 : Th} {o oc : Int} {CF F : List Int} {R1 L0 : List It} {s : Cw} {X : Hx} {ma : Int → Int} {kp : List Int → Int} {ko : Int → Int} {io iw : Nat} {l : List Int} {a13 cr : Int}
/-- the rows take their numbers -/
theorem u_th41 {Q : Th → Prop} (hd : 4 ≤ d) (hO0 : OwS Θ0 L0) (hl : ∀ x, x ∈ l → 0 ≤ x ∧ x < s.1.2.1) (hll : len l < 2000000000) (h13 : gt F 13 = a13) (hio : R1[io]? = some (obj o (15, F, 0, 0))) (hiw : R1[iw]? = some (lsI a13 (l.map (gt X.1)) cr))
    (hQ : ∀ Θ', OwT Θ0 L0 Θ' (cwL oc CF R1 s (rbN X l l.length)) → CwG foDm Θ' oc CF R1 s (rbN X l l.length) ma kp ko → Q Θ') : ∀ (N k : Nat) (Θ1 : Th) (g : Nat), l.length - k = N → k ≤ l.length → OwT Θ0 L0 Θ1 (cwL oc CF R1 s (rbN X l k)) → CwG foDm Θ1 oc CF R1 s (rbN X l k) ma kp ko → g ≤ G → W2_X1_thread_41 ω d G o (k : Int) g Θ1 Q := sorry
end T41
section THW
variable {ω : AO} {d G Gm : Nat} {Θ : Th} {o : Int} {A : Int → Int} {F R D tp ou ML rw0 : List Int} {ct co eo cl cr : Int} {REST : List It} {CF : List Int} {s sN : Cw} {X : Hx} {ma : Int → Int} {kp : List Int → Int} {ko : Int → Int} {N : Nat} {mf ps rs cT : Int → List Int} {pc : Int → Int} {key : Int → List Int} {refs : Int → List (List Int)} {there : Int → Bool} {sb : Int → List Int} {rp : Int → Bool} {tm x0 : Int → Int} {r4 r5 r6 r7 r8 r9 : List Int} {c5 c6 c7 c8 c9 : Int}
theorem u_X1_thread1 {Q : Th → Prop} (h : xo Θ o = (15, F, 0, 0)) (h20 : ¬ gt F 20 = 0) (hQ : Q Θ) : w2_X1_thread ω d G o Θ Q := sorry
theorem u_X1_thread0 {Q : Th → Prop} (hd : 38 ≤ d) (hF : FA F A) (h20 : gt F 20 = 0) (I : CwG foDm Θ (A 12) CF (cvR CF r4 r5 r6 r7 r8 r9 (s.2.1 (-1)) c5 c6 c7 c8 c9 (mwR o A R D tp ou ct co eo ML cl N ma mf ps pc REST F x0 rw0 cr)) s X ma kp ko) (hK : cwKk s) (hB : KB X) (hc4 : s.2.1 (-1) = 0 ∨ 10 ≤ s.2.1 (-1)) (hc5 : c5 = 0 ∨ 10 ≤ c5) (hm5 : c5 ≤ 500000) (hc6 : c6 = 0 ∨ 10 ≤ c6) (hm6 : c6 ≤ 500000) (hc7 : c7 = 0 ∨ 10 ≤ c7) (hm7 : c7 ≤ 500000) (hc8 : c8 = 0 ∨ 10 ≤ c8) (hm8 : c8 ≤ 500000) (hc9 : c9 = 0 ∨ 10 ≤ c9) (hm9 : c9 ≤ 500000) (hcr : cr = 0 ∨ 10 ≤ cr) (hmr : cr ≤ 500000)
    (hma : ∀ n, 0 ≤ n → 0 ≤ ma n) (hmf : ∀ n : Int, len (mf n) = 11)
    (hML : len ML = (N : Int) ∧ ∀ n, 0 ≤ n → n < (N : Int) → gt ML n = ma n) (hth : ∀ n, 0 ≤ n → n < (N : Int) → (there n = true ↔ ps n ≠ []))
    (hst : ∀ n, 0 ≤ n → n < (N : Int) → Str Θ (gt (mf n) 1) (key n) ∧ wide (key n) = 0 ∧ 0 ≤ gt (mf n) 1 ∧ Fx Θ (gt (mf n) 3) (32, cT n, 0, 0) ∧ (∃ c' e', Fx Θ (gt (cT n) 5) (3, rs n, c', e')) ∧ len (rs n) = ((refs n).length : Int) ∧ ∀ q, 0 ≤ q → q < len (rs n) → 0 ≤ gt (rs n) q ∧ Str Θ (gt (rs n) q) (kAt (refs n) q) ∧ wide (kAt (refs n) q) = 0 ∧ kAt (refs n) q ≠ [])
    (hct : ∀ n, 0 ≤ n → n < (N : Int) → Str Θ (gt (cT n) 9) (sb n) ∧ gt (cT n) 10 = (if rp n = true then 1 else 0) ∧ gt (cT n) 11 = tm n ∧ gt (mf n) 0 = n)
    (hsN : sN = mkM (kp00 X) (ko00 X) key refs there (cw00 s) N)
    (hb1 : totR refs N < 8000) (hb2 : s.2.2.1.2.2.1 + 2 * (N : Int) < 18000) (hb3 : (s.2.2.2.1.length : Int) + totR refs N < 70000) (hG1 : sN.2.2.2.2 - s.2.2.2.2 + (2 * sN.1.2.1 + 10) + (4 * sN.1.2.1 + 20) ≤ (Gm : Int)) (hG1' : (mk1 sN).2.2.2.2 - s.2.2.2.2 + (6 * sN.1.2.1 + 30) ≤ (Gm : Int)) (hG : (mkZ (ko00 X) sb rp sN).1.2.2.2.2 - s.2.2.2.2 + (20 * sN.1.2.1 + 80) ≤ (Gm : Int)) (hGn : Gm ≤ G) (hGm : (Gm : Int) + 2 * (2 * (mkS (ko00 X) sb rp tm sN).1.2.1 + 10) ≤ (G : Int))
    (hQ : ∀ Θ' X' CF' x Aσ r5' r7' r8' c5' c6' c7' c8' c9' cr', OwT Θ (cwL (A 12) CF (cvR CF r4 r5 r6 r7 r8 r9 (s.2.1 (-1)) c5 c6 c7 c8 c9 (mwR o A R D tp ou ct co eo ML cl N ma mf ps pc REST F x0 rw0 cr)) s X) Θ' (cwL (A 12) CF' (cvR CF' ((mkT (ko00 X) sb rp tm sN).map (gt X'.1)) r5' [] r7' r8' Aσ ((mkS (ko00 X) sb rp tm sN).2.1 (-1)) c5' c6' c7' c8' c9' (mwR o A R D tp ou ct co eo ML cl N ma mf ps pc REST ((F.set 20 1).set 19 (len (mkZ (ko00 X) sb rp sN).2.1)) x ((liZ (mkS (ko00 X) sb rp tm sN).1.2 (mkT (ko00 X) sb rp tm sN)).map (gt X'.1)) cr')) (mkS (ko00 X) sb rp tm sN) X') →
      CwG foDm Θ' (A 12) CF' (cvR CF' ((mkT (ko00 X) sb rp tm sN).map (gt X'.1)) r5' [] r7' r8' Aσ ((mkS (ko00 X) sb rp tm sN).2.1 (-1)) c5' c6' c7' c8' c9' (mwR o A R D tp ou ct co eo ML cl N ma mf ps pc REST ((F.set 20 1).set 19 (len (mkZ (ko00 X) sb rp sN).2.1)) x ((liZ (mkS (ko00 X) sb rp tm sN).1.2 (mkT (ko00 X) sb rp tm sN)).map (gt X'.1)) cr')) (mkS (ko00 X) sb rp tm sN) X' ma (kp00 X) (ko00 X) →
      cwKk (mkS (ko00 X) sb rp tm sN) → KB X' → ((mkS (ko00 X) sb rp tm sN).2.1 (-1) = 0 ∨ 10 ≤ (mkS (ko00 X) sb rp tm sN).2.1 (-1)) → (∀ j, 0 ≤ j → j ≠ 3 → gt CF' j = gt CF j) → xIs there (mkS (ko00 X) sb rp tm sN) X'.1 x (N : Int) → msU (mkS (ko00 X) sb rp tm sN) (N : Int) → RwB X'.1 X'.2.2.2.2.2.1 (liZ (mkS (ko00 X) sb rp tm sN).1.2 (mkT (ko00 X) sb rp tm sN)) (len (liZ (mkS (ko00 X) sb rp tm sN).1.2 (mkT (ko00 X) sb rp tm sN))) → (∃ A, foLk (mkS (ko00 X) sb rp tm sN).1.2 (mkT (ko00 X) sb rp tm sN) A) → (mkS (ko00 X) sb rp tm sN).1.2.1 < 17000 →
      ((c5' = 0 ∨ 10 ≤ c5') ∧ c5' ≤ max c5 40000) → ((c6' = 0 ∨ 10 ≤ c6') ∧ c6' ≤ max c6 40000) → ((c7' = 0 ∨ 10 ≤ c7') ∧ c7' ≤ max c7 40000) → ((c8' = 0 ∨ 10 ≤ c8') ∧ c8' ≤ max c8 40000) → ((c9' = 0 ∨ 10 ≤ c9') ∧ c9' ≤ max c9 40000) → ((cr' = 0 ∨ 10 ≤ cr') ∧ cr' ≤ max cr 40000) → Q Θ') : w2_X1_thread ω d G o Θ Q := sorry
end THW

/-! 86.al.lean.txt -/
/-! files: where a name stands, find, how a file is, name -/
set_option maxRecDepth 100000
set_option maxHeartbeats 2000000
/-- a file: its place, its fields, its name, its content, what was seen of it -/
abbrev FiR : Type := Int × List Int × List Int × List Int × Option (List Int)
def fr0 : FiR := (0, [], [], [], none)
def FiZ (Θ : Th) (r : FiR) : Prop := len r.2.1 = 7 ∧ Str Θ (gt r.2.1 0) r.2.2.1 ∧ Fx Θ (gt r.2.1 1) (27, [lbS r.2.2.1, lbG r.2.2.1], 0, 0) ∧ Str Θ (gt r.2.1 2) r.2.2.2.1 ∧ opS Θ (gt r.2.1 4) r.2.2.2.2 ∧ (gt r.2.1 6 = 0 ∨ gt r.2.1 6 = 1)
theorem FiZ.le {Θ Θ1 : Th} {r : FiR} (h : FiZ Θ r) (L : Le Θ Θ1) : FiZ Θ1 r := sorry
def fnm (FB : List FiR) : List (List Int) := FB.map (fun r => r.2.2.1)
def fiL (FB : List FiR) : List It := FB.map (fun r => obj r.1 (26, r.2.1, 0, 0))
def fad (FB : List FiR) : List Int := FB.map (fun r => r.1)
/-- all that is seen of files -/
def FsV (Θ : Th) (o : Int) (F : List Int) (FB : List FiR) : Prop := xo Θ o = (15, F, 0, 0) ∧ (∃ c e, xo Θ (gt F 5) = (3, fad FB, c, e)) ∧ (∀ r, r ∈ FB → xo Θ r.1 = (26, r.2.1, 0, 0) ∧ FiZ Θ r) ∧ SrtK (fnm FB)
theorem fad_gt {FB : List FiR} {k : Int} {r : FiR} (h : FB[k.toNat]? = some r) : gt (fad FB) k = r.1 := sorry
theorem fad_len {FB : List FiR} : len (fad FB) = (FB.length : Int) := by unfold fad len; rw [List.length_map]
theorem fnm_len {FB : List FiR} : (fnm FB).length = FB.length := by unfold fnm; rw [List.length_map]
/-- the file of a name, if it is there -/
def fiX (FB : List FiR) (w : List Int) : Option FiR := if isK (fnm FB) w = true ∧ gt (FB.getD (lbK (fnm FB) w) fr0).2.1 6 ≠ 0 then some (FB.getD (lbK (fnm FB) w) fr0) else none
def opF (x : Int) : Option FiR → Prop
  | none => x = -1
  | some r => x = r.1
/-- 0 gone, 1 changed, 2 new, 3 the same -/
def hisF (r : FiR) : Int :=
  match r.2.2.2.2 with
  | none => 2
  | some m => if gt r.2.1 6 = 0 then 0 else if gt r.2.1 3 ≠ gt r.2.1 5 ∨ r.2.2.2.1 ≠ m then 1 else 3
section FIL
variable {ω : AO} {d G : Nat} {Θ Θ1 : Th} {o l1 : Int} {F w : List Int} {FB : List FiR} {r : FiR}
theorem FsV.at (h : FsV Θ o F FB) {k : Int} (h0 : 0 ≤ k) (h1 : k < (FB.length : Int)) : ∃ r, FB[k.toNat]? = some r ∧ r ∈ FB ∧ gt (fad FB) k = r.1 ∧ xo Θ r.1 = (26, r.2.1, 0, 0) ∧ FiZ Θ r ∧ (fnm FB)[k.toNat]? = some r.2.2.1 ∧ FB.getD k.toNat fr0 = r := sorry
theorem u_X1_indexOf {Q : Int → Th → Prop} (hd : 6 ≤ d) (h : FsV Θ o F FB) (hw : Str Θ l1 w) (hn : (FB.length : Int) < 1000000000) (hQ : Q (lbK (fnm FB) w : Int) Θ) : w2_X1_indexOf ω d G o l1 Θ Q := sorry
theorem u_X1_find0 {Q : Int → Th → Prop} (hl : l1 < 0) (hQ : Q (-1) Θ) : w2_X1_find ω d G o l1 Θ Q := sorry
theorem u_X1_find {Q : Int → Th → Prop} (hd : 8 ≤ d) (h : FsV Θ o F FB) (hw : Str Θ l1 w) (hn : (FB.length : Int) < 1000000000) (hQ : ∀ x, opF x (fiX FB w) → Q x Θ) : w2_X1_find ω d G o l1 Θ Q := sorry
theorem u_X1_howIs {Q : Int → Th → Prop} (hd : 4 ≤ d) (hx : xo Θ r.1 = (26, r.2.1, 0, 0)) (h : FiZ Θ r) (hQ : Q (hisF r) Θ) : w2_X1_howIs ω d G r.1 Θ Q := sorry
end FIL
section NAM
variable {ω : AO} {d G : Nat} {Θ : Th} {o : Int} {A : Int → Int} {F R D tp ou : List Int} {ct co eo : Int} {K : List It}
/-- a name comes to hand -/
theorem u_X1_name {Q : Int → Th → Prop} (hd : 12 ≤ d) (hO : OwS Θ (hdL o A F R D tp ou ct co eo K)) (hF : FA F A) (hlF : len F = 21) (htl : len tp ≤ 2000) (hG : len tp + 5 ≤ (G : Int)) (hQ : ∀ x Θ', OwT Θ (hdL o A F R D tp ou ct co eo K) Θ' (hdL o A (F.set 14 x) R D [] ou ct co eo K) → opS Θ' x (if isNm tp = true then some tp else none) → Q (if isNm tp = true then 1 else 0) Θ') : w2_X1_name ω d G o Θ Q := sorry
end NAM

/-! 86.am.lean.txt -/
/-! files: put, remove -/
set_option maxRecDepth 100000
set_option maxHeartbeats 4000000
/-- the works with their files -/
def fsL (o : Int) (A : Int → Int) (F R D tp ou : List Int) (ct co eo : Int) (FB : List FiR) (cf : Int) (K : List It) : List It := hdL o A F R D tp ou ct co eo (lsI (A 5) (fad FB) cf :: (fiL FB ++ K))
def fiU (r : FiR) (cA : Int) (txt : List Int) (st : Int) : FiR := (r.1, ((r.2.1.set 6 1).set 2 cA).set 3 st, r.2.2.1, txt, r.2.2.2.2)
def fiN (v lb nA : Int) (w : List Int) (cA : Int) (txt : List Int) (st : Int) : FiR := (v, [nA, lb, cA, st, -1, 0, 1], w, txt, none)
def lbF (FB : List FiR) (w : List Int) : Nat := lbK (fnm FB) w
/-- a file is put -/
def puB (FB : List FiR) (v lb nA : Int) (w : List Int) (cA : Int) (txt : List Int) (st : Int) : List FiR :=
  if isK (fnm FB) w = true then FB.set (lbF FB w) (fiU (FB.getD (lbF FB w) fr0) cA txt st) else FB.take (lbF FB w) ++ fiN v lb nA w cA txt st :: FB.drop (lbF FB w)
def puT (FB : List FiR) (w : List Int) (t : Int) : Int := if isK (fnm FB) w = true ∧ gt (FB.getD (lbF FB w) fr0).2.1 6 ≠ 0 then t else t + 1
def puC (FB : List FiR) (w : List Int) (cf : Int) : Int := if isK (fnm FB) w = true then cf else adC cf (FB.length : Int)
section FPU
variable {ω : AO} {d G : Nat} {Θ Θ1 : Th} {o l1 l2 l3 : Int} {A : Int → Int} {F R D tp ou w txt : List Int} {ct co eo cf : Int} {FB : List FiR} {K : List It} {r : FiR}
theorem fsL_V (hO : OwS Θ (fsL o A F R D tp ou ct co eo FB cf K)) (hF : FA F A) (hZ : ∀ r, r ∈ FB → FiZ Θ r) (hS : SrtK (fnm FB)) : FsV Θ o F FB := sorry
theorem fsL_at {k : Nat} (hk : FB[k]? = some r) : (fsL o A F R D tp ou ct co eo FB cf K)[k + 6]? = some (obj r.1 (26, r.2.1, 0, 0)) := sorry
theorem fad_set {k : Nat} {r' : FiR} (hk : FB[k]? = some r) (h : r'.1 = r.1) : fad (FB.set k r') = fad FB := sorry
theorem fsL_set {k : Nat} {r' : FiR} (hk : FB[k]? = some r) (h : r'.1 = r.1) : (fsL o A F R D tp ou ct co eo FB cf K).set (k + 6) (obj r.1 (26, r'.2.1, 0, 0)) = fsL o A F R D tp ou ct co eo (FB.set k r') cf K := sorry
/-- a field of a file is written -/
theorem fsL_pf {k : Nat} {j v : Int} {r' : FiR} (hO : OwS Θ (fsL o A F R D tp ou ct co eo FB cf K)) (hk : FB[k]? = some r) (h1 : r'.1 = r.1) (h2 : r'.2.1 = r.2.1.set j.toNat v) (t : Θ1 = pf Θ r.1 j v) : OwT Θ (fsL o A F R D tp ou ct co eo FB cf K) Θ1 (fsL o A F R D tp ou ct co eo (FB.set k r') cf K) := sorry
theorem puB_fn (hk : isK (fnm FB) w = true) {cA st : Int} : fnm (FB.set (lbF FB w) (fiU (FB.getD (lbF FB w) fr0) cA txt st)) = fnm FB := sorry
/-- the last part of put -/
theorem u_pu90 {Q : Th → Prop} {k g : Nat} (hd : 4 ≤ d) (hO : OwS Θ (fsL o A F R D tp ou ct co eo FB cf K)) (hk : FB[k]? = some r) (h7 : len r.2.1 = 7) (h2 : -1 ≤ l2) (h3 : inI l3) (hg : g ≤ G) (hQ : ∀ Θ', OwT Θ (fsL o A F R D tp ou ct co eo FB cf K) Θ' (fsL o A F R D tp ou ct co eo (FB.set k (fiU r l2 txt l3)) cf K) → Q Θ') : W2_X1_put_90 ω d G l2 l3 r.1 g Θ Q := sorry
theorem u_pu58 {Q : Th → Prop} {k g : Nat} (hd : 4 ≤ d) (hO : OwS Θ (fsL o A F R D tp ou ct co eo FB cf K)) (hF : FA F A) (hk : FB[k]? = some r) (h7 : len r.2.1 = 7) (h2 : -1 ≤ l2) (h3 : inI l3) (ht : 0 ≤ gt F 15 ∧ gt F 15 < 2000000000) (hn : (FB.length : Int) < 1000000000) (hg : g ≤ G)
    (hQ : ∀ Θ', OwT Θ (fsL o A F R D tp ou ct co eo FB cf K) Θ' (fsL o A (if gt r.2.1 6 = 0 then F.set 15 (gt F 15 + 1) else F) R D tp ou ct co eo (FB.set k (fiU r l2 txt l3)) cf K) → Q Θ') : W2_X1_put_58 ω d G o l2 l3 (k : Int) g Θ Q := sorry
theorem puT_in {t : Int} : t ≤ puT FB w t ∧ puT FB w t ≤ t + 1 := sorry
theorem u_X1_put {Q : Th → Prop} (hd : 14 ≤ d) (hO : OwS Θ (fsL o A F R D tp ou ct co eo FB cf K)) (hF : FA F A) (hlF : len F = 21) (hZ : ∀ r, r ∈ FB → FiZ Θ r) (hS : SrtK (fnm FB)) (hw : Str Θ l1 w) (hwd : wide w = 0) (hlw : len w ≤ 1000) (hx : Str Θ l2 txt) (h3 : inI l3) (ht : 0 ≤ gt F 15 ∧ gt F 15 < 2000000000) (hn : (FB.length : Int) < 1000000) (hc : cf ≤ 1000000) (hc0 : cf ≤ adC cf (FB.length : Int) ∧ adC cf (FB.length : Int) ≤ 10000000)
    (hG : len w + 14 + (puC FB w cf - cf) ≤ (G : Int)) (hQ : ∀ v lb Θ', OwT Θ (fsL o A F R D tp ou ct co eo FB cf K) Θ' (fsL o A (F.set 15 (puT FB w (gt F 15))) R D tp ou ct co eo (puB FB v lb l1 w l2 txt l3) (puC FB w cf) K) → (∀ r, r ∈ puB FB v lb l1 w l2 txt l3 → FiZ Θ' r) → SrtK (fnm (puB FB v lb l1 w l2 txt l3)) → Q Θ') : w2_X1_put ω d G o l1 l2 l3 Θ Q := sorry
end FPU

/-! 86.an.lean.txt -/
/-! files: remove -/
set_option maxRecDepth 100000
set_option maxHeartbeats 4000000
def fi0 (r : FiR) : FiR := (r.1, r.2.1.set 6 0, r.2.2)
/-- a file goes: it stays in the row if it was seen -/
def rmB (FB : List FiR) (k : Nat) : List FiR :=
  match (FB.getD k fr0).2.2.2.2 with
  | none => FB.take k ++ FB.drop (k + 1)
  | some _ => FB.set k (fi0 (FB.getD k fr0))
section FRM
variable {ω : AO} {d G : Nat} {Θ Θ1 : Th} {o l1 l2 l3 : Int} {A : Int → Int} {F R D tp ou w txt : List Int} {ct co eo cf : Int} {FB : List FiR} {K : List It} {r : FiR}
theorem fad_nd (hO : OwS Θ (fsL o A F R D tp ou ct co eo FB cf K)) : (fad FB).Nodup := sorry
theorem fi0_ok (h : FiZ Θ r) : FiZ Θ (fi0 r) := sorry
theorem fad_idx (hn : (fad FB).Nodup) {k : Nat} (hk : FB[k]? = some r) : idx (fad FB) r.1 0 = (k : Int) := sorry
theorem u_X1_remove {Q : Th → Prop} {k : Nat} (hd : 6 ≤ d) (hO : OwS Θ (fsL o A F R D tp ou ct co eo FB cf K)) (hF : FA F A) (hlF : len F = 21) (hZ : ∀ r, r ∈ FB → FiZ Θ r) (hS : SrtK (fnm FB)) (hk : FB[k]? = some r) (ht : 0 < gt F 15 ∧ gt F 15 < 2000000000)
    (hQ : ∀ Θ', OwT Θ (fsL o A F R D tp ou ct co eo FB cf K) Θ' (fsL o A (F.set 15 (gt F 15 - 1)) R D tp ou ct co eo (rmB FB k) cf K) → (∀ r, r ∈ rmB FB k → FiZ Θ' r) → SrtK (fnm (rmB FB k)) → Q Θ') : w2_X1_remove ω d G o r.1 Θ Q := sorry
end FRM

/-! 86.ao.lean.txt -/
/-! mails: forget -/
set_option maxRecDepth 100000
set_option maxHeartbeats 2000000
/-- the works with their mails: objects, places -/
def msL (o : Int) (A : Int → Int) (F R D tp ou : List Int) (ct co eo : Int) (ML : List Int) (cl : Int) (N : Nat) (ma : Int → Int) (mf : Int → List Int) (pa : Int → Int) (pls : Int → List Int) (pc : Int → Int) (K : List It) : List It :=
  hdL o A F R D tp ou ct co eo (lsI (A 6) ML cl :: (blk N (fun n => obj (ma n) (29, mf n, 0, 0)) ++ (blk N (fun n => lsI (pa n) (pls n) (pc n)) ++ K)))
theorem fup_2 {α : Type} {f : Int → α} {k : Int} {v w : α} : fup (fup f k v) k w = fup f k w := sorry
theorem fup_self {α : Type} {f : Int → α} {k : Int} : fup f k (f k) = f := sorry
def neF (fa : Int) (p : Int × Int) : Bool := decide (p.1 ≠ fa)
section MSL
variable {ω : AO} {d G : Nat} {Θ Θ1 Θ0 : Th} {L0 : List It} {o n fa : Int} {A : Int → Int} {F R D tp ou ML : List Int} {ct co eo cl : Int} {N : Nat} {ma : Int → Int} {mf : Int → List Int} {pa : Int → Int} {pls : Int → List Int} {pc : Int → Int} {K : List It} {ps : List (Int × Int)}
theorem ms_m (h0 : 0 ≤ n) (h1 : n < (N : Int)) : (msL o A F R D tp ou ct co eo ML cl N ma mf pa pls pc K)[n.toNat + 6]? = some (obj (ma n) (29, mf n, 0, 0)) := sorry
theorem ms_p (h0 : 0 ≤ n) (h1 : n < (N : Int)) : (msL o A F R D tp ou ct co eo ML cl N ma mf pa pls pc K)[(n.toNat + N) + 6]? = some (lsI (pa n) (pls n) (pc n)) := sorry
theorem ms_mS {l : List Int} (h0 : 0 ≤ n) (h1 : n < (N : Int)) : (msL o A F R D tp ou ct co eo ML cl N ma mf pa pls pc K).set (n.toNat + 6) (obj (ma n) (29, l, 0, 0)) = msL o A F R D tp ou ct co eo ML cl N ma (fup mf n l) pa pls pc K := sorry
theorem ms_pS {l : List Int} {c : Int} (h0 : 0 ≤ n) (h1 : n < (N : Int)) : (msL o A F R D tp ou ct co eo ML cl N ma mf pa pls pc K).set ((n.toNat + N) + 6) (lsI (pa n) l c) = msL o A F R D tp ou ct co eo ML cl N ma mf pa (fup pls n l) (fup pc n c) K := sorry
theorem ms_pf {j v : Int} (hO : OwS Θ (msL o A F R D tp ou ct co eo ML cl N ma mf pa pls pc K)) (h0 : 0 ≤ n) (h1 : n < (N : Int)) (t : Θ1 = pf Θ (ma n) j v) : OwT Θ (msL o A F R D tp ou ct co eo ML cl N ma mf pa pls pc K) Θ1 (msL o A F R D tp ou ct co eo ML cl N ma (fup mf n ((mf n).set j.toNat v)) pa pls pc K) := sorry
theorem ms_ls {l : List Int} {c e : Int} (hO : OwS Θ (msL o A F R D tp ou ct co eo ML cl N ma mf pa pls pc K)) (h0 : 0 ≤ n) (h1 : n < (N : Int)) (t : Θ1 = uq Θ (pa n) (3, l, c, e)) : OwT Θ (msL o A F R D tp ou ct co eo ML cl N ma mf pa pls pc K) Θ1 (msL o A F R D tp ou ct co eo ML cl N ma mf pa (fup pls n l) (fup pc n c) K) := sorry
theorem ms_xo (hO : OwS Θ (msL o A F R D tp ou ct co eo ML cl N ma mf pa pls pc K)) (h0 : 0 ≤ n) (h1 : n < (N : Int)) : xo Θ (ma n) = (29, mf n, 0, 0) ∧ ¬ fz Θ (ma n) := hO.at (ms_m h0 h1)
theorem ms_xp (hO : OwS Θ (msL o A F R D tp ou ct co eo ML cl N ma mf pa pls pc K)) (h0 : 0 ≤ n) (h1 : n < (N : Int)) : ∃ e, xo Θ (pa n) = (3, pls n, pc n, e) ∧ ¬ fz Θ (pa n) := hO.at (ms_p h0 h1)
theorem ms_ml (hO : OwS Θ (msL o A F R D tp ou ct co eo ML cl N ma mf pa pls pc K)) : ∃ e, xo Θ (A 6) = (3, ML, cl, e) ∧ ¬ fz Θ (A 6) := hO.at (n := 5) rfl
/-- the places of one mail in a file go -/
theorem u_fg36 {Q : Th → Prop} (hd : 4 ≤ d) (hO0 : OwS Θ0 L0) (h0 : 0 ≤ n) (h1 : n < (N : Int)) (hfa : -1 ≤ fa) : ∀ (k g : Nat) (Θ1 : Th) (mf1 pls1 : Int → List Int) (ps1 : List (Int × Int)), k ≤ ps1.length → (ps1.length : Int) < 1000000000 → gt (mf1 n) 4 = pa n → OwT Θ0 L0 Θ1 (msL o A F R D tp ou ct co eo ML cl N ma mf1 pa pls1 pc K) → all2 (PlO Θ1) (pls1 n) ps1 → g ≤ G →
    (∀ Θ' rs' g', OwT Θ0 L0 Θ' (msL o A F R D tp ou ct co eo ML cl N ma (fup mf1 n (if (ps1.take k).any (fun p => !neF fa p) = true then (mf1 n).set 7 1 else mf1 n)) pa (fup pls1 n rs') pc K) → all2 (PlO Θ') rs' ((ps1.take k).filter (neF fa) ++ ps1.drop k) → g' ≤ G → W2_X1_forget_2 ω d G o fa (n + 1) g' Θ' Q) → W2_X1_forget_36 ω d G o fa n (ma n) ((k : Int) - 1) g Θ1 Q := sorry
/-- the places in a file go -/
theorem u_X1_forget {Q : Th → Prop} {mf' : Int → List Int} {psF : Int → List (Int × Int)} (hd : 4 ≤ d) (hO : OwS Θ (msL o A F R D tp ou ct co eo ML cl N ma mf pa pls pc K)) (hF : FA F A) (hML : len ML = (N : Int) ∧ ∀ n, 0 ≤ n → n < (N : Int) → gt ML n = ma n) (hpa : ∀ n, 0 ≤ n → n < (N : Int) → gt (mf n) 4 = pa n) (hps : ∀ n, 0 ≤ n → n < (N : Int) → all2 (PlO Θ) (pls n) (psF n) ∧ ((psF n).length : Int) < 1000000000) (hfa : -1 ≤ fa)
    (hmf : ∀ n, mf' n = if (psF n).any (fun p => !neF fa p) = true then (mf n).set 7 1 else mf n)
    (hQ : ∀ Θ' pls', OwT Θ (msL o A F R D tp ou ct co eo ML cl N ma mf pa pls pc K) Θ' (msL o A F R D tp ou ct co eo ML cl N ma mf' pa pls' pc K) → (∀ n, 0 ≤ n → n < (N : Int) → all2 (PlO Θ') (pls' n) ((psF n).filter (neF fa))) → Q Θ') : w2_X1_forget ω d G o fa Θ Q := sorry
end MSL

/-! 87.aa.lean.txt -/
/-! segments -/
set_option maxRecDepth 100000
def w2_X1_mailOf (ω : AO) (d G : Nat) (l0 l1 : Int) (Θ : Th) (Q : Int → Th → Prop) : Prop := Hid (∀ S, bel S → R2 ω S Θ → Ctr ω yX1_mailOf cX1_mailOf 4 (some (.object "MailWorks$Mail")) d G [(2, l0), (2, l1)] S (eA S (q2 ω Θ Q)))
def w2_X1_messagesOf (ω : AO) (d G : Nat) (l0 l1 : Int) (Θ : Th) (Q : Int → Th → Prop) : Prop := Hid (∀ S, bel S → R2 ω S Θ → Ctr ω yX1_messagesOf cX1_messagesOf 4 (some (.object "java/util/ArrayList")) d G [(2, l0), (2, l1)] S (eA S (q2 ω Θ Q)))
def w2_X1_messagesToRead (ω : AO) (d G : Nat) (l0 : Int) (Θ : Th) (Q : Int → Th → Prop) : Prop := Hid (∀ S, bel S → R2 ω S Θ → Ctr ω yX1_messagesToRead cX1_messagesToRead 4 (some .int) d G [(2, l0)] S (eI S (q2 ω Θ Q)))
def w2_X1_contentOf (ω : AO) (d G : Nat) (l0 l1 : Int) (Θ : Th) (Q : Int → Th → Prop) : Prop := Hid (∀ S, bel S → R2 ω S Θ → Ctr ω yX1_contentOf cX1_contentOf 3 (some (.object "MailWorks$Content")) d G [(2, l0), (2, l1)] S (eA S (q2 ω Θ Q)))
def w2_X1_enter (ω : AO) (d G : Nat) (l0 l1 : Int) (Θ : Th) (Q : Th → Prop) : Prop := Hid (∀ S, bel S → R2 ω S Θ → Ctr ω yX1_enter cX1_enter 3 none d G [(2, l0), (2, l1)] S (eU S (q2U ω Θ Q)))
theorem lr_X1_387_28 : FLkR RX1 387 28 0 (.object "java/lang/String") := sorry
theorem lr_X1_391_28 : FLkR RX1 391 28 1 (.object "java/lang/String") := sorry
theorem lm_X1_397 : ILk RX1 397 yX16_init cX16_init 3 2 := sorry
theorem lf_X1_388_29 : FLk RX1 388 29 2 (.object "java/lang/String") false := sorry
theorem lf_X1_394_29 : FLk RX1 394 29 8 .boolean false := sorry
theorem lr_X1_403_26 : FLkR RX1 403 26 1 (.object "MailWorks$Label") := sorry
theorem lr_X1_407_27 : FLkR RX1 407 27 0 .int := sorry
theorem lr_X1_277_15 : FLkR RX1 277 15 10 (.object "java/util/HashMap") := sorry
theorem lr_X1_274_15 : FLkR RX1 274 15 9 (.object "java/util/HashMap") := sorry
theorem lr_X1_328_26 : FLkR RX1 328 26 2 (.object "java/lang/String") := sorry
theorem lm_X1_420 : VLk RX1 420 4 yJ9_get cJ9_get 3 (some (.object "java/lang/Object")) 1 := sorry
theorem lm_X1_423 : VLk RX1 423 26 yX13_messages cX13_messages 2 (some (.object "java/util/ArrayList")) 0 := sorry
theorem lm_X1_426 : VLk RX1 426 4 yJ9_put cJ9_put 3 (some (.object "java/lang/Object")) 2 := sorry
theorem lm_X1_412 : SLk RX1 412 yX1_howIs cX1_howIs 1 (some .int) 1 := sorry
theorem lm_X1_416 : VLk RX1 416 15 yX1_messagesOf cX1_messagesOf 4 (some (.object "java/util/ArrayList")) 1 := sorry
theorem lr_X1_270_15 : FLkR RX1 270 15 8 (.object "java/util/HashMap") := sorry
theorem lr_X1_249_15 : FLkR RX1 249 15 4 (.object "MailWorks$Tools") := sorry
theorem lm_X1_478 : ILk RX1 478 yX19_init cX19_init 5 2 := sorry
theorem lr_X1_394_29 : FLkR RX1 394 29 8 .boolean := sorry
theorem lm_X1_484 : VLk RX1 484 15 yX1_contentOf cX1_contentOf 3 (some (.object "MailWorks$Content")) 1 := sorry
theorem lf_X1_481_29 : FLk RX1 481 29 3 (.object "MailWorks$Content") false := sorry
theorem lr_X1_488_29 : FLkR RX1 488 29 9 .int := sorry
theorem lm_X1_491 : VLk RX1 491 21 yX7_take cX7_take 4 none 1 := sorry
theorem lm_X1_493 : VLk RX1 493 21 yX7_add cX7_add 4 none 1 := sorry
def W2_X1_mailOf_2 (ω : AO) (d G : Nat) (l0 l1 l2 : Int) (g : Nat) (Θ : Th) (Q : Int → Th → Prop) : Prop := Hid (SJ2 ω yX1_mailOf cX1_mailOf 4 (some (.object "MailWorks$Mail")) d G (fun Sz Θz => (eA Sz (q2 ω Θz Q))) 2 [(2, l0), (2, l1), (0, l2), vN] [] g Θ)
def W2_X1_mailOf_151 (ω : AO) (d G : Nat) (l0 l1 : Int) (g : Nat) (Θ : Th) (Q : Int → Th → Prop) : Prop := Hid (SJ2 ω yX1_mailOf cX1_mailOf 4 (some (.object "MailWorks$Mail")) d G (fun Sz Θz => (eA Sz (q2 ω Θz Q))) 151 [(2, l0), (2, l1), vN, vN] [] g Θ)
def W2_X1_mailOf_73 (ω : AO) (d G : Nat) (l0 l1 l2 : Int) (g : Nat) (Θ : Th) (Q : Int → Th → Prop) : Prop := Hid (SJ2 ω yX1_mailOf cX1_mailOf 4 (some (.object "MailWorks$Mail")) d G (fun Sz Θz => (eA Sz (q2 ω Θz Q))) 73 [(2, l0), (2, l1), (0, l2), vN] [] g Θ)
set_option maxHeartbeats 4000000 in
theorem s2_X1_mailOf {ω : AO} {d G : Nat} {l0 l1 : Int} {Θ : Th} {Q : Int → Th → Prop} (hB : W2_X1_mailOf_2 ω d G l0 l1 0 (0) Θ Q) : w2_X1_mailOf ω d G l0 l1 Θ Q := sorry
set_option maxHeartbeats 4000000 in
theorem s2_X1_mailOf_2 {ω : AO} {d G : Nat} {l0 l1 l2 : Int} {g : Nat} {Θ : Th} {Q : Int → Th → Prop} (hB : (kd Θ l0 = 15) ∧ ∀ (v4 : Int) (e4 : v4 = gt (vv Θ l0) 6) (r4 : -1 ≤ v4), (1 ≤ d) ∧ (kd Θ v4 = 3) ∧ (g ≤ G) ∧ ∀ (x7 : Int) (e7 : x7 = len (vv Θ v4)) (r7 : -2147483648 ≤ x7 ∧ x7 < 2147483648), (-2147483648 ≤ l2 ∧ l2 < 2147483648) ∧ (∀ (c10 : x7 ≤ l2), (kd Θ l1 = 28) ∧ ∀ (v62 : Int) (e62 : v62 = gt (vv Θ l1) 0) (r62 : -1 ≤ v62), (kd Θ v62 = 2) ∧ ∀ (x65 : Int) (e65 : x65 = if vv Θ v62 = [] then 1 else 0) (r65 : x65 = 0 ∨ x65 = 1), (∀ (c68 : ¬ x65 = 0), W2_X1_mailOf_151 ω d G l0 l1 (g) Θ Q) ∧ (∀ (c68 : x65 = 0), W2_X1_mailOf_73 ω d G l0 l1 0 (g) Θ Q)) ∧ (∀ (c10 : l2 < x7), ∀ (v14 : Int) (e14 : v14 = gt (vv Θ l0) 6) (r14 : -1 ≤ v14), (kd Θ v14 = 3) ∧ (0 ≤ l2 ∧ l2 < len (vv Θ v14)) ∧ (3 ≤ d) ∧ ∀ (x18 : Int) (e18 : x18 = gt (vv Θ v14) l2) (r18 : -1 ≤ x18), (x18 < 0 ∨ kd Θ x18 ∈ [29]) ∧ (kd Θ x18 = 29) ∧ ∀ (v26 : Int) (e26 : v26 = gt (vv Θ x18) 1) (r26 : -1 ≤ v26), (kd Θ l1 = 28) ∧ ∀ (v30 : Int) (e30 : v30 = gt (vv Θ l1) 0) (r30 : -1 ≤ v30), (kd Θ v26 = 2) ∧ (kd Θ v30 = 2) ∧ (2 ≤ d) ∧ ∀ (x33 : Int) (e33 : x33 = if vv Θ v26 = vv Θ v30 then 1 else 0) (r33 : x33 = 0 ∨ x33 = 1), (∀ (c36 : x33 = 0), W2_X1_mailOf_2 ω d G l0 l1 ((l2 + 1)) (g) Θ Q) ∧ (∀ (c36 : ¬ x33 = 0), ∀ (v40 : Int) (e40 : v40 = gt (vv Θ x18) 2) (r40 : -1 ≤ v40), ∀ (v44 : Int) (e44 : v44 = gt (vv Θ l1) 1) (r44 : -1 ≤ v44), (kd Θ v40 = 2) ∧ (kd Θ v44 = 2) ∧ ∀ (x47 : Int) (e47 : x47 = if vv Θ v40 = vv Θ v44 then 1 else 0) (r47 : x47 = 0 ∨ x47 = 1), (∀ (c50 : x47 = 0), W2_X1_mailOf_2 ω d G l0 l1 ((l2 + 1)) (g) Θ Q) ∧ (∀ (c50 : ¬ x47 = 0), Q x18 Θ)))) : W2_X1_mailOf_2 ω d G l0 l1 l2 g Θ Q := sorry
set_option maxHeartbeats 4000000 in
theorem s2_X1_mailOf_151 {ω : AO} {d G : Nat} {l0 l1 : Int} {g : Nat} {Θ : Th} {Q : Int → Th → Prop} (hB : (g + 3 ≤ G) ∧ ∀ (v151 : Int) (Θ151 : Th) (u151 : nt Θ ≤ v151 ∧ 0 ≤ v151) (b151 : Bl Θ) (t151 : Θ151 = nu Θ v151 (29, [0, -1, -1, -1, -1, -1, -1, 0, 0, 0, -1], 0, 0)), (kd Θ151 l0 = 15) ∧ ∀ (v156 : Int) (e156 : v156 = gt (vv Θ151 l0) 6) (r156 : -1 ≤ v156), (1 ≤ d) ∧ (kd Θ151 v156 = 3) ∧ ∀ (x159 : Int) (e159 : x159 = len (vv Θ151 v156)) (r159 : -2147483648 ≤ x159 ∧ x159 < 2147483648), ∃ G163 : Nat, (g + 3 + G163 ≤ G) ∧ w2_X16_init ω (d - 1) G163 v151 x159 l1 Θ151 (fun Θ163 => ∀ (L163 : Le Θ151 Θ163), ∀ (v168 : Int) (e168 : v168 = gt (vv Θ163 l0) 6) (r168 : -1 ≤ v168), (kd Θ163 v168 = 3) ∧ (¬ fz Θ163 v168) ∧ (rf Θ163 v151) ∧ (adC (cp Θ163 v168) (len (vv Θ163 v168)) ≤ 60000000) ∧ (7 ≤ d) ∧ (g + 3 + G163 + (adC (cp Θ163 v168) (len (vv Θ163 v168)) - cp Θ163 v168).toNat ≤ G) ∧ ∀ (k172 : Int) (Θ172 : Th) (t172 : Θ172 = uq Θ163 v168 (3, vv Θ163 v168 ++ [v151], adC (cp Θ163 v168) (len (vv Θ163 v168)), k172)), ∀ (v177 : Int) (e177 : v177 = gt (vv Θ172 l0) 1) (r177 : -1 ≤ v177), (kd Θ172 v177 = 104) ∧ (0 ≤ (4 : Int) ∧ 4 < len (vv Θ172 v177)) ∧ ∀ (v182 : Int) (e182 : v182 = gt (vv Θ172 v177) 4) (r182 : -2147483648 ≤ v182 ∧ v182 < 2147483648), (¬ fz Θ172 v177) ∧ (-2147483648 ≤ (v182 + 1) ∧ (v182 + 1) < 2147483648) ∧ ∀ (Θ185 : Th) (t185 : Θ185 = pf Θ172 v177 4 (v182 + 1)), Q v151 Θ185)) : W2_X1_mailOf_151 ω d G l0 l1 g Θ Q := sorry
set_option maxHeartbeats 4000000 in
theorem s2_X1_mailOf_73 {ω : AO} {d G : Nat} {l0 l1 l2 : Int} {g : Nat} {Θ : Th} {Q : Int → Th → Prop} (hB : (kd Θ l0 = 15) ∧ ∀ (v75 : Int) (e75 : v75 = gt (vv Θ l0) 6) (r75 : -1 ≤ v75), (1 ≤ d) ∧ (kd Θ v75 = 3) ∧ (g ≤ G) ∧ ∀ (x78 : Int) (e78 : x78 = len (vv Θ v75)) (r78 : -2147483648 ≤ x78 ∧ x78 < 2147483648), (-2147483648 ≤ l2 ∧ l2 < 2147483648) ∧ (∀ (c81 : x78 ≤ l2), W2_X1_mailOf_151 ω d G l0 l1 (g) Θ Q) ∧ (∀ (c81 : l2 < x78), ∀ (v85 : Int) (e85 : v85 = gt (vv Θ l0) 6) (r85 : -1 ≤ v85), (kd Θ v85 = 3) ∧ (0 ≤ l2 ∧ l2 < len (vv Θ v85)) ∧ (3 ≤ d) ∧ ∀ (x89 : Int) (e89 : x89 = gt (vv Θ v85) l2) (r89 : -1 ≤ x89), (x89 < 0 ∨ kd Θ x89 ∈ [29]) ∧ (kd Θ x89 = 29) ∧ ∀ (v97 : Int) (e97 : v97 = gt (vv Θ x89) 1) (r97 : -1 ≤ v97), (kd Θ l1 = 28) ∧ ∀ (v101 : Int) (e101 : v101 = gt (vv Θ l1) 0) (r101 : -1 ≤ v101), (kd Θ v97 = 2) ∧ (kd Θ v101 = 2) ∧ (2 ≤ d) ∧ ∀ (x104 : Int) (e104 : x104 = if vv Θ v97 = vv Θ v101 then 1 else 0) (r104 : x104 = 0 ∨ x104 = 1), (∀ (c107 : x104 = 0), W2_X1_mailOf_73 ω d G l0 l1 ((l2 + 1)) (g) Θ Q) ∧ (∀ (c107 : ¬ x104 = 0), ∃ G111 : Nat, (g + G111 ≤ G) ∧ w2_X16_isThere ω (d - 1) G111 x89 Θ (fun x111 Θ111 => ∀ (L111 : Le Θ Θ111) (r111 : x111 = 0 ∨ x111 = 1), (∀ (c114 : x111 = 0), ∀ (v122 : Int) (e122 : v122 = gt (vv Θ111 l1) 1) (r122 : -1 ≤ v122), (¬ fz Θ111 x89) ∧ ∀ (Θ125 : Th) (t125 : Θ125 = pf Θ111 x89 2 v122), (¬ fz Θ125 x89) ∧ ∀ (Θ130 : Th) (t130 : Θ130 = pf Θ125 x89 8 1), ∀ (v134 : Int) (e134 : v134 = gt (vv Θ130 l0) 1) (r134 : -1 ≤ v134), (kd Θ130 v134 = 104) ∧ (0 ≤ (5 : Int) ∧ 5 < len (vv Θ130 v134)) ∧ ∀ (v139 : Int) (e139 : v139 = gt (vv Θ130 v134) 5) (r139 : -2147483648 ≤ v139 ∧ v139 < 2147483648), (¬ fz Θ130 v134) ∧ (-2147483648 ≤ (v139 + 1) ∧ (v139 + 1) < 2147483648) ∧ ∀ (Θ142 : Th) (t142 : Θ142 = pf Θ130 v134 5 (v139 + 1)), (g + G111 ≤ G) ∧ Q x89 Θ142) ∧ (∀ (c114 : ¬ x111 = 0), W2_X1_mailOf_73 ω d G l0 l1 ((l2 + 1)) (g + G111) Θ111 Q))))) : W2_X1_mailOf_73 ω d G l0 l1 l2 g Θ Q := sorry
def W2_X1_messagesOf_22 (ω : AO) (d G : Nat) (l1 s0 : Int) (g : Nat) (Θ : Th) (Q : Int → Th → Prop) : Prop := Hid (SJ2 ω yX1_messagesOf cX1_messagesOf 4 (some (.object "java/util/ArrayList")) d G (fun Sz Θz => (eA Sz (q2 ω Θz Q))) 22 [vN, (2, l1), vN, vN] [(2, s0)] g Θ)
set_option maxHeartbeats 4000000 in
theorem s2_X1_messagesOf {ω : AO} {d G : Nat} {l0 l1 : Int} {Θ : Th} {Q : Int → Th → Prop} (hB : (kd Θ l1 = 26) ∧ ∀ (v1 : Int) (e1 : v1 = gt (vv Θ l1) 1) (r1 : -1 ≤ v1), (kd Θ v1 = 27) ∧ ∀ (v4 : Int) (e4 : v4 = gt (vv Θ v1) 0) (r4 : -2147483648 ≤ v4 ∧ v4 < 2147483648), (∀ (c8 : ¬ v4 = 2), (kd Θ l0 = 15) ∧ ∀ (v19 : Int) (e19 : v19 = gt (vv Θ l0) 10) (r19 : -1 ≤ v19), W2_X1_messagesOf_22 ω d G l1 v19 (0) Θ Q) ∧ (∀ (c8 : v4 = 2), (kd Θ l0 = 15) ∧ ∀ (v12 : Int) (e12 : v12 = gt (vv Θ l0) 9) (r12 : -1 ≤ v12), W2_X1_messagesOf_22 ω d G l1 v12 (0) Θ Q)) : w2_X1_messagesOf ω d G l0 l1 Θ Q := sorry
set_option maxHeartbeats 4000000 in
theorem s2_X1_messagesOf_22 {ω : AO} {d G : Nat} {l1 s0 : Int} {g : Nat} {Θ : Th} {Q : Int → Th → Prop} (hB : (kd Θ l1 = 26) ∧ ∀ (v25 : Int) (e25 : v25 = gt (vv Θ l1) 2) (r25 : -1 ≤ v25), (1 ≤ d) ∧ (kd Θ s0 = 4) ∧ ∃ G28 : Nat, (g + G28 ≤ G) ∧ w2_J9_get ω (d - 1) G28 s0 v25 Θ (fun x28 Θ28 => ∀ (L28 : Le Θ Θ28) (r28 : -1 ≤ x28), (x28 < 0 ∨ kd Θ28 x28 ∈ [3]) ∧ (∀ (c36 : x28 < 0), ∃ G42 : Nat, (g + G28 + G42 ≤ G) ∧ w2_X13_messages ω (d - 1) G42 l1 Θ28 (fun x42 Θ42 => ∀ (L42 : Le Θ28 Θ42) (r42 : -1 ≤ x42), ∀ (v48 : Int) (e48 : v48 = gt (vv Θ42 l1) 2) (r48 : -1 ≤ v48), ∃ G52 : Nat, (g + G28 + G42 + G52 ≤ G) ∧ w2_J9_put ω (d - 1) G52 s0 v48 x42 Θ42 (fun x52 Θ52 => ∀ (L52 : Le Θ42 Θ52) (r52 : -1 ≤ x52), (g + G28 + G42 + G52 ≤ G) ∧ (-1 ≤ x42) ∧ Q x42 Θ52))) ∧ (∀ (c36 : 0 ≤ x28), (g + G28 ≤ G) ∧ (-1 ≤ x28) ∧ Q x28 Θ28))) : W2_X1_messagesOf_22 ω d G l1 s0 g Θ Q := sorry
def W2_X1_messagesToRead_4 (ω : AO) (d G : Nat) (l0 l1 l2 : Int) (g : Nat) (Θ : Th) (Q : Int → Th → Prop) : Prop := Hid (SJ2 ω yX1_messagesToRead cX1_messagesToRead 4 (some .int) d G (fun Sz Θz => (eI Sz (q2 ω Θz Q))) 4 [(2, l0), (0, l1), (0, l2), vN] [] g Θ)
def W2_X1_messagesToRead_53 (ω : AO) (d G : Nat) (l0 l1 l2 l3 : Int) (g : Nat) (Θ : Th) (Q : Int → Th → Prop) : Prop := Hid (SJ2 ω yX1_messagesToRead cX1_messagesToRead 4 (some .int) d G (fun Sz Θz => (eI Sz (q2 ω Θz Q))) 53 [(2, l0), (0, l1), (0, l2), (2, l3)] [] g Θ)
set_option maxHeartbeats 4000000 in
theorem s2_X1_messagesToRead {ω : AO} {d G : Nat} {l0 : Int} {Θ : Th} {Q : Int → Th → Prop} (hB : W2_X1_messagesToRead_4 ω d G l0 0 0 (0) Θ Q) : w2_X1_messagesToRead ω d G l0 Θ Q := sorry
set_option maxHeartbeats 4000000 in
theorem s2_X1_messagesToRead_4 {ω : AO} {d G : Nat} {l0 l1 l2 : Int} {g : Nat} {Θ : Th} {Q : Int → Th → Prop} (hB : (kd Θ l0 = 15) ∧ ∀ (v6 : Int) (e6 : v6 = gt (vv Θ l0) 5) (r6 : -1 ≤ v6), (1 ≤ d) ∧ (kd Θ v6 = 3) ∧ (g ≤ G) ∧ ∀ (x9 : Int) (e9 : x9 = len (vv Θ v6)) (r9 : -2147483648 ≤ x9 ∧ x9 < 2147483648), (-2147483648 ≤ l2 ∧ l2 < 2147483648) ∧ (∀ (c12 : x9 ≤ l2), (-2147483648 ≤ l1 ∧ l1 < 2147483648) ∧ Q l1 Θ) ∧ (∀ (c12 : l2 < x9), ∀ (v16 : Int) (e16 : v16 = gt (vv Θ l0) 5) (r16 : -1 ≤ v16), (kd Θ v16 = 3) ∧ (0 ≤ l2 ∧ l2 < len (vv Θ v16)) ∧ (3 ≤ d) ∧ ∀ (x20 : Int) (e20 : x20 = gt (vv Θ v16) l2) (r20 : -1 ≤ x20), (x20 < 0 ∨ kd Θ x20 ∈ [26]) ∧ (kd Θ x20 = 26) ∧ ∀ (v28 : Int) (e28 : v28 = gt (vv Θ x20) 1) (r28 : -1 ≤ v28), (kd Θ v28 = 27) ∧ ∀ (v31 : Int) (e31 : v31 = gt (vv Θ v28) 0) (r31 : -2147483648 ≤ v31 ∧ v31 < 2147483648), (∀ (c34 : v31 = 0), W2_X1_messagesToRead_4 ω d G l0 l1 ((l2 + 1)) (g) Θ Q) ∧ (∀ (c34 : ¬ v31 = 0), ∃ G38 : Nat, (g + G38 ≤ G) ∧ w2_X1_howIs ω (d - 1) G38 x20 Θ (fun x38 Θ38 => ∀ (L38 : Le Θ Θ38) (r38 : -2147483648 ≤ x38 ∧ x38 < 2147483648), (∀ (c42 : x38 = 1), W2_X1_messagesToRead_53 ω d G l0 l1 l2 x20 (g + G38) Θ38 Q) ∧ (∀ (c42 : ¬ x38 = 1), ∃ G46 : Nat, (g + G38 + G46 ≤ G) ∧ w2_X1_howIs ω (d - 1) G46 x20 Θ38 (fun x46 Θ46 => ∀ (L46 : Le Θ38 Θ46) (r46 : -2147483648 ≤ x46 ∧ x46 < 2147483648), (∀ (c50 : ¬ x46 = 2), W2_X1_messagesToRead_4 ω d G l0 l1 ((l2 + 1)) (g + G38 + G46) Θ46 Q) ∧ (∀ (c50 : x46 = 2), W2_X1_messagesToRead_53 ω d G l0 l1 l2 x20 (g + G38 + G46) Θ46 Q))))))) : W2_X1_messagesToRead_4 ω d G l0 l1 l2 g Θ Q := sorry
set_option maxHeartbeats 4000000 in
theorem s2_X1_messagesToRead_53 {ω : AO} {d G : Nat} {l0 l1 l2 l3 : Int} {g : Nat} {Θ : Th} {Q : Int → Th → Prop} (hB : (1 ≤ d) ∧ (kd Θ l0 = 15) ∧ ∃ G56 : Nat, (g + G56 ≤ G) ∧ w2_X1_messagesOf ω (d - 1) G56 l0 l3 Θ (fun x56 Θ56 => ∀ (L56 : Le Θ Θ56) (r56 : -1 ≤ x56), (kd Θ56 x56 = 3) ∧ (g + G56 ≤ G) ∧ ∀ (x59 : Int) (e59 : x59 = len (vv Θ56 x56)) (r59 : -2147483648 ≤ x59 ∧ x59 < 2147483648), W2_X1_messagesToRead_4 ω d G l0 ((l1 + x59)) ((l2 + 1)) (g + G56) Θ56 Q)) : W2_X1_messagesToRead_53 ω d G l0 l1 l2 l3 g Θ Q := sorry
set_option maxHeartbeats 4000000 in
theorem s2_X1_contentOf {ω : AO} {d G : Nat} {l0 l1 : Int} {Θ : Th} {Q : Int → Th → Prop} (hB : (kd Θ l0 = 15) ∧ ∀ (v1 : Int) (e1 : v1 = gt (vv Θ l0) 8) (r1 : -1 ≤ v1), (1 ≤ d) ∧ (kd Θ v1 = 4) ∧ ∃ G5 : Nat, (0 + G5 ≤ G) ∧ w2_J9_get ω (d - 1) G5 v1 l1 Θ (fun x5 Θ5 => ∀ (L5 : Le Θ Θ5) (r5 : -1 ≤ x5), (x5 < 0 ∨ kd Θ5 x5 ∈ [32]) ∧ (∀ (c13 : x5 < 0), (0 + G5 + 3 ≤ G) ∧ ∀ (v18 : Int) (Θ18 : Th) (u18 : nt Θ5 ≤ v18 ∧ 0 ≤ v18) (b18 : Bl Θ5) (t18 : Θ18 = nu Θ5 v18 (32, [-1, -1, -1, -1, -1, -1, -1, -1, -1, -1, 0, 0], 0, 0)), ∀ (v24 : Int) (e24 : v24 = gt (vv Θ18 l0) 4) (r24 : -1 ≤ v24), ∃ G27 : Nat, (0 + G5 + 3 + G27 ≤ G) ∧ w2_X19_init ω (d - 1) G27 v18 l1 v24 Θ18 (fun Θ27 => ∀ (L27 : Le Θ18 Θ27), ∀ (v32 : Int) (e32 : v32 = gt (vv Θ27 l0) 8) (r32 : -1 ≤ v32), (kd Θ27 v32 = 4) ∧ ∃ G37 : Nat, (0 + G5 + 3 + G27 + G37 ≤ G) ∧ w2_J9_put ω (d - 1) G37 v32 l1 v18 Θ27 (fun x37 Θ37 => ∀ (L37 : Le Θ27 Θ37) (r37 : -1 ≤ x37), (0 + G5 + 3 + G27 + G37 ≤ G) ∧ Q v18 Θ37))) ∧ (∀ (c13 : 0 ≤ x5), (0 + G5 ≤ G) ∧ (-1 ≤ x5) ∧ Q x5 Θ5))) : w2_X1_contentOf ω d G l0 l1 Θ Q := sorry
def W2_X1_enter_14 (ω : AO) (d G : Nat) (l0 l1 : Int) (g : Nat) (Θ : Th) (Q : Th → Prop) : Prop := Hid (SJ2 ω yX1_enter cX1_enter 3 none d G (fun Sz Θz => (eU Sz (q2U ω Θz Q))) 14 [(2, l0), (2, l1), vN] [] g Θ)
def W2_X1_enter_26 (ω : AO) (d G : Nat) (l0 l1 : Int) (g : Nat) (Θ : Th) (Q : Th → Prop) : Prop := Hid (SJ2 ω yX1_enter cX1_enter 3 none d G (fun Sz Θz => (eU Sz (q2U ω Θz Q))) 26 [(2, l0), (2, l1), vN] [] g Θ)
def W2_X1_enter_44 (ω : AO) (d G : Nat) (l0 l1 : Int) (g : Nat) (Θ : Th) (Q : Th → Prop) : Prop := Hid (SJ2 ω yX1_enter cX1_enter 3 none d G (fun Sz Θz => (eU Sz (q2U ω Θz Q))) 44 [(2, l0), (2, l1), vN] [] g Θ)
def W2_X1_enter_45 (ω : AO) (d G : Nat) (l0 l1 s0 : Int) (g : Nat) (Θ : Th) (Q : Th → Prop) : Prop := Hid (SJ2 ω yX1_enter cX1_enter 3 none d G (fun Sz Θz => (eU Sz (q2U ω Θz Q))) 45 [(2, l0), (2, l1), vN] [(0, s0)] g Θ)
def W2_X1_enter_65 (ω : AO) (d G : Nat) (l0 l1 : Int) (g : Nat) (Θ : Th) (Q : Th → Prop) : Prop := Hid (SJ2 ω yX1_enter cX1_enter 3 none d G (fun Sz Θz => (eU Sz (q2U ω Θz Q))) 65 [(2, l0), (2, l1), vN] [] g Θ)
set_option maxHeartbeats 4000000 in
theorem s2_X1_enter {ω : AO} {d G : Nat} {l0 l1 : Int} {Θ : Th} {Q : Th → Prop} (hB : (kd Θ l1 = 29) ∧ ∀ (v1 : Int) (e1 : v1 = gt (vv Θ l1) 3) (r1 : -1 ≤ v1), (∀ (c4 : v1 < 0), W2_X1_enter_14 ω d G l0 l1 (0) Θ Q) ∧ (∀ (c4 : 0 ≤ v1), ∀ (v8 : Int) (e8 : v8 = gt (vv Θ l1) 8) (r8 : 0 ≤ v8 ∧ v8 < 2), (∀ (c11 : v8 = 0), W2_X1_enter_26 ω d G l0 l1 (0) Θ Q) ∧ (∀ (c11 : ¬ v8 = 0), W2_X1_enter_14 ω d G l0 l1 (0) Θ Q))) : w2_X1_enter ω d G l0 l1 Θ Q := sorry
set_option maxHeartbeats 4000000 in
theorem s2_X1_enter_14 {ω : AO} {d G : Nat} {l0 l1 : Int} {g : Nat} {Θ : Th} {Q : Th → Prop} (hB : (kd Θ l1 = 29) ∧ ∀ (v17 : Int) (e17 : v17 = gt (vv Θ l1) 2) (r17 : -1 ≤ v17), (1 ≤ d) ∧ (kd Θ l0 = 15) ∧ ∃ G20 : Nat, (g + G20 ≤ G) ∧ w2_X1_contentOf ω (d - 1) G20 l0 v17 Θ (fun x20 Θ20 => ∀ (L20 : Le Θ Θ20) (r20 : -1 ≤ x20), (¬ fz Θ20 l1) ∧ (-1 ≤ x20) ∧ ∀ (Θ23 : Th) (t23 : Θ23 = pf Θ20 l1 3 x20), W2_X1_enter_26 ω d G l0 l1 (g + G20) Θ23 Q)) : W2_X1_enter_14 ω d G l0 l1 g Θ Q := sorry
set_option maxHeartbeats 4000000 in
theorem s2_X1_enter_26 {ω : AO} {d G : Nat} {l0 l1 : Int} {g : Nat} {Θ : Th} {Q : Th → Prop} (hB : (1 ≤ d) ∧ (kd Θ l1 = 29) ∧ ∃ G27 : Nat, (g + G27 ≤ G) ∧ w2_X16_isThere ω (d - 1) G27 l1 Θ (fun x27 Θ27 => ∀ (L27 : Le Θ Θ27) (r27 : x27 = 0 ∨ x27 = 1), (∀ (c30 : x27 = 0), W2_X1_enter_44 ω d G l0 l1 (g + G27) Θ27 Q) ∧ (∀ (c30 : ¬ x27 = 0), ∀ (v34 : Int) (e34 : v34 = gt (vv Θ27 l1) 8) (r34 : 0 ≤ v34 ∧ v34 < 2), (∀ (c37 : ¬ v34 = 0), W2_X1_enter_44 ω d G l0 l1 (g + G27) Θ27 Q) ∧ (∀ (c37 : v34 = 0), W2_X1_enter_45 ω d G l0 l1 1 (g + G27) Θ27 Q)))) : W2_X1_enter_26 ω d G l0 l1 g Θ Q := sorry
set_option maxHeartbeats 4000000 in
theorem s2_X1_enter_44 {ω : AO} {d G : Nat} {l0 l1 : Int} {g : Nat} {Θ : Th} {Q : Th → Prop} (hB : W2_X1_enter_45 ω d G l0 l1 0 (g) Θ Q) : W2_X1_enter_44 ω d G l0 l1 g Θ Q := sorry
set_option maxHeartbeats 4000000 in
theorem s2_X1_enter_45 {ω : AO} {d G : Nat} {l0 l1 s0 : Int} {g : Nat} {Θ : Th} {Q : Th → Prop} (hB : (kd Θ l1 = 29) ∧ ∀ (v47 : Int) (e47 : v47 = gt (vv Θ l1) 9) (r47 : -2147483648 ≤ v47 ∧ v47 < 2147483648), (∀ (c50 : v47 < 0), W2_X1_enter_65 ω d G l0 l1 (g) Θ Q) ∧ (∀ (c50 : 0 ≤ v47), (-2147483648 ≤ s0 ∧ s0 < 2147483648) ∧ (∀ (c54 : ¬ s0 = 0), W2_X1_enter_65 ω d G l0 l1 (g) Θ Q) ∧ (∀ (c54 : s0 = 0), (kd Θ l0 = 15) ∧ ∀ (v58 : Int) (e58 : v58 = gt (vv Θ l0) 7) (r58 : -1 ≤ v58), (1 ≤ d) ∧ (kd Θ v58 = 21) ∧ ∃ G62 : Nat, (g + G62 ≤ G) ∧ w2_X7_take ω (d - 1) G62 v58 l1 Θ (fun Θ62 => ∀ (L62 : Le Θ Θ62), W2_X1_enter_65 ω d G l0 l1 (g + G62) Θ62 Q)))) : W2_X1_enter_45 ω d G l0 l1 s0 g Θ Q := sorry
set_option maxHeartbeats 4000000 in
theorem s2_X1_enter_65 {ω : AO} {d G : Nat} {l0 l1 : Int} {g : Nat} {Θ : Th} {Q : Th → Prop} (hB : (kd Θ l1 = 29) ∧ ∀ (v66 : Int) (e66 : v66 = gt (vv Θ l1) 9) (r66 : -2147483648 ≤ v66 ∧ v66 < 2147483648), (∀ (c69 : 0 ≤ v66), (g ≤ G) ∧ Q Θ) ∧ (∀ (c69 : v66 < 0), (1 ≤ d) ∧ ∃ G73 : Nat, (g + G73 ≤ G) ∧ w2_X16_isThere ω (d - 1) G73 l1 Θ (fun x73 Θ73 => ∀ (L73 : Le Θ Θ73) (r73 : x73 = 0 ∨ x73 = 1), (∀ (c76 : x73 = 0), (g + G73 ≤ G) ∧ Q Θ73) ∧ (∀ (c76 : ¬ x73 = 0), (kd Θ73 l0 = 15) ∧ ∀ (v80 : Int) (e80 : v80 = gt (vv Θ73 l0) 7) (r80 : -1 ≤ v80), (kd Θ73 v80 = 21) ∧ ∃ G84 : Nat, (g + G73 + G84 ≤ G) ∧ w2_X7_add ω (d - 1) G84 v80 l1 Θ73 (fun Θ84 => ∀ (L84 : Le Θ73 Θ84), (g + G73 + G84 ≤ G) ∧ Q Θ84))))) : W2_X1_enter_65 ω d G l0 l1 g Θ Q := sorry
/-! 87.ab.lean.txt -/
/-! mails: the mail that a message is -/
set_option maxRecDepth 100000
set_option maxHeartbeats 4000000
theorem pm4 {α : Type} (H A B C D K : List α) (a b c d : α) : (d :: c :: b :: a :: (H ++ (A ++ (B ++ (C ++ (D ++ K)))))).Perm (H ++ ((A ++ [a]) ++ ((B ++ [b]) ++ ((C ++ [c]) ++ ((D ++ [d]) ++ K))))) := sorry
/-- the first one -/
def ffI (p : Int → Bool) (n : Nat) : Int :=
  match (List.range n).find? (fun (i : Nat) => p (i : Int)) with
  | none => -1
  | some i => (i : Int)
theorem ffI_no {p : Int → Bool} {n : Nat} (h : ∀ j, 0 ≤ j → j < (n : Int) → p j = false) : ffI p n = -1 := sorry
theorem ffI_at {p : Int → Bool} {n : Nat} {i : Int} (h0 : 0 ≤ i) (h1 : i < (n : Int)) (h : ∀ j, 0 ≤ j → j < i → p j = false) (hp : p i = true) : ffI p n = i := sorry
/-- what is made joins -/
theorem OwT.mki {Θ Θ1 Θ2 : Th} {L NL : List It} {v : Int} (hO : OwS Θ L) (g : Gr Θ Θ1) (hv : kd Θ v = 0) (M : MKI Θ1 v Θ2 NL) : OwT Θ L Θ2 (NL ++ L) := sorry
/-- the rest of what mails own: tags, names they had -/
def mtK (N : Nat) (ta tp tq : Int → Int) (tk : Int → List (List Int)) (tv : Int → List Int) (t1 t2 hA : Int → Int) (hr : Int → List Int) (hc : Int → Int) (K : List It) : List It :=
  blk N (fun n => soI (ta n) (tp n) (tq n) (tk n) (tv n) (t1 n) (t2 n)) ++ (blk N (fun n => lsI (hA n) (hr n) (hc n)) ++ K)
def mo1 (key by_ : Int → List Int) (k b : List Int) (i : Int) : Bool := decide (key i = k) && decide (by_ i = b)
def mo2 (key : Int → List Int) (there : Int → Bool) (k : List Int) (i : Int) : Bool := decide (key i = k) && !there i
theorem blk_up {N : Nat} {g g' : Int → It} (h : ∀ j, 0 ≤ j → j < (N : Int) → g j = g' j) : blk N g ++ [g' (N : Int)] = blk (N + 1) g' := by rw [blk_succ, blk_ext h]
section MOF
variable {ω : AO} {d G : Nat} {Θ : Th} {o ms kA bA : Int} {A : Int → Int} {F R D tp ou ML k b : List Int} {ct co eo cl : Int} {N : Nat} {ma : Int → Int} {mf : Int → List Int} {pa : Int → Int} {pls : Int → List Int} {pc ta tp1 tq : Int → Int} {tk : Int → List (List Int)} {tv : Int → List Int} {t1 t2 hA : Int → Int} {hr : Int → List Int} {hc : Int → Int} {K : List It} {key by_ : Int → List Int} {there : Int → Bool}
theorem msL_up {v pl tg p q hl e1 e2 : Int} {Θ2 : Th} {nf ML2 : List Int} {cl2 : Int} (T : OwT Θ (msL o A F R D tp ou ct co eo ML cl N ma mf pa pls pc (mtK N ta tp1 tq tk tv t1 t2 hA hr hc K)) Θ2 ([obj hl (3, [], 0, e2), soI tg p q [] [] 0 0, obj pl (3, [], 0, e1), obj v (29, nf, 0, 0)] ++ msL o A F R D tp ou ct co eo ML2 cl2 N ma mf pa pls pc (mtK N ta tp1 tq tk tv t1 t2 hA hr hc K))) :
    OwT Θ (msL o A F R D tp ou ct co eo ML cl N ma mf pa pls pc (mtK N ta tp1 tq tk tv t1 t2 hA hr hc K)) Θ2 (msL o A F R D tp ou ct co eo ML2 cl2 (N + 1) (fup ma N v) (fup mf N nf) (fup pa N pl) (fup pls N []) (fup pc N 0) (mtK (N + 1) (fup ta N tg) (fup tp1 N p) (fup tq N q) (fup tk N []) (fup tv N []) (fup t1 N 0) (fup t2 N 0) (fup hA N hl) (fup hr N []) (fup hc N 0) K)) := sorry
theorem u_mo151 {Q : Int → Th → Prop} {g : Nat} (hd : 8 ≤ d) (hO : OwS Θ (msL o A F R D tp ou ct co eo ML cl N ma mf pa pls pc (mtK N ta tp1 tq tk tv t1 t2 hA hr hc K))) (hF : FA F A) (hML : len ML = (N : Int)) (hN : (N : Int) < 1000000) (hm : Fx Θ ms (28, [kA, bA], 0, 0)) (hcl : adC cl (N : Int) ≤ 60000000 ∧ cl ≤ adC cl (N : Int)) (hD : len D = 9) (hD4 : 0 ≤ gt D 4 ∧ gt D 4 < 1000000) (hG : (g : Int) + 9 + (adC cl (N : Int) - cl) ≤ (G : Int))
    (hQ : ∀ v pl tg p q hl Θ', OwT Θ (msL o A F R D tp ou ct co eo ML cl N ma mf pa pls pc (mtK N ta tp1 tq tk tv t1 t2 hA hr hc K)) Θ' (msL o A F R (D.set 4 (gt D 4 + 1)) tp ou ct co eo (ML ++ [v]) (adC cl (N : Int)) (N + 1) (fup ma N v) (fup mf N [(N : Int), kA, bA, -1, pl, tg, hl, 0, 0, -1, -1]) (fup pa N pl) (fup pls N []) (fup pc N 0) (mtK (N + 1) (fup ta N tg) (fup tp1 N p) (fup tq N q) (fup tk N []) (fup tv N []) (fup t1 N 0) (fup t2 N 0) (fup hA N hl) (fup hr N []) (fup hc N 0) K)) → 0 ≤ v → Q v Θ') : W2_X1_mailOf_151 ω d G o ms g Θ Q := sorry
theorem u_X1_mailOf {Q : Int → Th → Prop} (hd : 8 ≤ d) (hO : OwS Θ (msL o A F R D tp ou ct co eo ML cl N ma mf pa pls pc (mtK N ta tp1 tq tk tv t1 t2 hA hr hc K))) (hF : FA F A) (hML : len ML = (N : Int) ∧ ∀ n, 0 ≤ n → n < (N : Int) → gt ML n = ma n) (hN : (N : Int) < 1000000) (hm : Fx Θ ms (28, [kA, bA], 0, 0)) (hk : Str Θ kA k) (hb : Str Θ bA b) (hs : ∀ n, 0 ≤ n → n < (N : Int) → Str Θ (gt (mf n) 1) (key n) ∧ Str Θ (gt (mf n) 2) (by_ n) ∧ gt (mf n) 4 = pa n ∧ (there n = true ↔ pls n ≠ []))
    (hcl : adC cl (N : Int) ≤ 60000000 ∧ cl ≤ adC cl (N : Int)) (hD : len D = 9) (hD4 : 0 ≤ gt D 4 ∧ gt D 4 < 1000000) (hD5 : 0 ≤ gt D 5 ∧ gt D 5 < 1000000) (hG : ffI (mo1 key by_ k b) N = -1 → (k = [] ∨ ffI (mo2 key there k) N = -1) → 9 + (adC cl (N : Int) - cl) ≤ (G : Int))
    (hQ1 : ∀ i, 0 ≤ i → i < (N : Int) → ffI (mo1 key by_ k b) N = i → Q (ma i) Θ)
    (hQ2 : ∀ i Θ', 0 ≤ i → i < (N : Int) → ffI (mo1 key by_ k b) N = -1 → k ≠ [] → ffI (mo2 key there k) N = i → OwT Θ (msL o A F R D tp ou ct co eo ML cl N ma mf pa pls pc (mtK N ta tp1 tq tk tv t1 t2 hA hr hc K)) Θ' (msL o A F R (D.set 5 (gt D 5 + 1)) tp ou ct co eo ML cl N ma (fup mf i (((mf i).set 2 bA).set 8 1)) pa pls pc (mtK N ta tp1 tq tk tv t1 t2 hA hr hc K)) → Q (ma i) Θ')
    (hQ3 : ffI (mo1 key by_ k b) N = -1 → (k = [] ∨ ffI (mo2 key there k) N = -1) → ∀ v pl tg p q hl Θ', OwT Θ (msL o A F R D tp ou ct co eo ML cl N ma mf pa pls pc (mtK N ta tp1 tq tk tv t1 t2 hA hr hc K)) Θ' (msL o A F R (D.set 4 (gt D 4 + 1)) tp ou ct co eo (ML ++ [v]) (adC cl (N : Int)) (N + 1) (fup ma N v) (fup mf N [(N : Int), kA, bA, -1, pl, tg, hl, 0, 0, -1, -1]) (fup pa N pl) (fup pls N []) (fup pc N 0) (mtK (N + 1) (fup ta N tg) (fup tp1 N p) (fup tq N q) (fup tk N []) (fup tv N []) (fup t1 N 0) (fup t2 N 0) (fup hA N hl) (fup hr N []) (fup hc N 0) K)) → 0 ≤ v → Q v Θ') : w2_X1_mailOf ω d G o ms Θ Q := sorry
end MOF

/-! 87.ac.lean.txt -/
/-! contents and messages, each made once -/
set_option maxRecDepth 100000
set_option maxHeartbeats 2000000
/-- the tools of contents -/
def tlI (tl ch arr st sb : Int) (FT : List Int) : It := ([tl, ch, arr, st, sb], fun Θ => xo Θ tl = (16, FT, 0, 0) ∧ ¬ fz Θ tl ∧ CHS Θ ch arr ∧ (∃ w h, StO Θ st sb w h) ∧ gt FT 0 = ch ∧ gt FT 1 = st)
theorem tlI_stb {tl ch arr st sb : Int} {FT : List Int} : stb (tlI tl ch arr st sb FT) := sorry
theorem tlI_live {Θ : Th} {tl ch arr st sb : Int} {FT : List Int} (h : (tlI tl ch arr st sb FT).2 Θ) : live Θ [tl, ch, arr, st, sb] := sorry
/-- a map: its keys; what it leads to shows what it should -/
def MpV (P : Th → Int → List Int → Prop) (Θ : Th) (kn : List (List Int)) (M : List Int → Int) : Prop := (∀ k, 0 ≤ M k ↔ k ∈ kn) ∧ (∀ k, M k = -1 ∨ 0 ≤ M k) ∧ ∀ k, k ∈ kn → P Θ (M k) k
def knU (kn : List (List Int)) (k : List Int) : List (List Int) := if k ∈ kn then kn else kn ++ [k]
theorem MpV.le {P : Th → Int → List Int → Prop} {Θ Θ1 : Th} {kn : List (List Int)} {M : List Int → Int} (h : MpV P Θ kn M) (hP : ∀ x k, P Θ x k → P Θ1 x k) : MpV P Θ1 kn M := ⟨h.1, h.2.1, fun k hk => hP _ _ (h.2.2 k hk)⟩
theorem MpV.up {P : Th → Int → List Int → Prop} {Θ : Th} {kn : List (List Int)} {M : List Int → Int} {k : List Int} {v : Int} (h : MpV P Θ kn M) (hk : k ∉ kn) (hv : 0 ≤ v) (hP : P Θ v k) : MpV P Θ (knU kn k) (upM M k v) := sorry
theorem CtO.kdd {Θ : Th} {r : Int} {l : List Int} (h : CtO Θ r l) : kd Θ r = 32 := by obtain ⟨F, rs, prs, h1, -⟩ := h; exact kd_of h1.2
/-- what a content costs -/
def ctG (kn : List (List Int)) (b : List Int) : Int := if b ∈ kn then 0 else 3 + ciG b + pS (kn.length : Int)
def lsM (so : Int) (Θ : Th) (r : Int) (l : List Int) : Prop := LxO MsO Θ r (mesF so l) ∧ 0 ≤ r
def meG (kn : List (List Int)) (b : List Int) : Int := if b ∈ kn then 0 else 30 * len b + 70 + pS (kn.length : Int)
theorem pS_nn {n : Nat} : 0 ≤ pS (n : Int) := sorry
theorem meG_nn {kn : List (List Int)} {b : List Int} : 0 ≤ meG kn b := sorry
section CTF
variable {ω : AO} {d G : Nat} {Θ : Th} {o l1 tl ch arr st sb hm : Int} {F FT Fm b : List Int} {L : List It} {io it jm : Nat} {kn : List (List Int)} {M : List Int → Int}
theorem u_X1_contentOf {Q : Int → Th → Prop} (hd : 42 ≤ d) (hO : OwS Θ L) (hio : L[io]? = some (obj o (15, F, 0, 0))) (hit : L[it]? = some (tlI tl ch arr st sb FT)) (hjm : L[jm]? = some (hmS hm Fm (kn.length : Int) M)) (hne : it ≠ jm) (h4 : gt F 4 = tl) (h8 : gt F 8 = hm) (hV : MpV CtO Θ kn M) (hs : Str Θ l1 b) (hw : wide b = 0) (hb : byt b) (hok : ciOk b) (hk : kn.length < 90000) (hpS : 0 ≤ pS (kn.length : Int)) (hciG : 0 ≤ ciG b) (hG : ctG kn b ≤ (G : Int))
    (hQ : ∀ x Θ' Fm' M', OwT Θ L Θ' (L.set jm (hmS hm Fm' ((knU kn b).length : Int) M')) → MpV CtO Θ' (knU kn b) M' → CtO Θ' x b → 0 ≤ x → Q x Θ') : w2_X1_contentOf ω d G o l1 Θ Q := sorry
/-- a file's messages -/
theorem u_mes22 {Q : Int → Th → Prop} {r : FiR} {so : Int} {g : Nat} (hd : 22 ≤ d) (hO : OwS Θ L) (hjm : L[jm]? = some (hmS hm Fm (kn.length : Int) M)) (hx : ∃ ir : Nat, L[ir]? = some (obj r.1 (26, r.2.1, 0, 0))) (hz : FiZ Θ r) (hw : wide r.2.2.2.1 = 0) (hl : len r.2.2.2.1 ≤ 10000) (hso : lbS r.2.2.1 = so) (hV : MpV (lsM so) Θ kn M) (hk : kn.length < 90000) (hpS : 0 ≤ pS (kn.length : Int)) (hG : (g : Int) + meG kn r.2.2.2.1 ≤ (G : Int))
    (hQ : ∀ x Θ' Fm' M', OwT Θ L Θ' (L.set jm (hmS hm Fm' ((knU kn r.2.2.2.1).length : Int) M')) → MpV (lsM so) Θ' (knU kn r.2.2.2.1) M' → lsM so Θ' x r.2.2.2.1 → Q x Θ') : W2_X1_messagesOf_22 ω d G r.1 hm g Θ Q := sorry
end CTF

/-! 87.ad.lean.txt -/
/-! messages of files; how many are to be read -/
set_option maxRecDepth 100000
set_option maxHeartbeats 2000000
/-- what is counted: how many, keys of boxes, keys of singles, cost -/
abbrev MrS : Type := Int × List (List Int) × List (List Int) × Int
def moS (s : List (List Int) × List (List Int) × Int) (r : FiR) : List (List Int) × List (List Int) × Int := if lbS r.2.2.1 = 2 then (knU s.1 r.2.2.2.1, s.2.1, s.2.2 + meG s.1 r.2.2.2.1) else (s.1, knU s.2.1 r.2.2.2.1, s.2.2 + meG s.2.1 r.2.2.2.1)
def rdyF (r : FiR) : Bool := decide (lbS r.2.2.1 ≠ 0) && (decide (hisF r = 1) || decide (hisF r = 2))
def mrS (s : MrS) (r : FiR) : MrS := if rdyF r = true then (s.1 + ((mesF (lbS r.2.2.1) r.2.2.2.1).length : Int), moS s.2 r) else s
theorem mrS_ge (s : MrS) (r : FiR) : s.1 ≤ (mrS s r).1 ∧ s.2.2.2 ≤ (mrS s r).2.2.2 := sorry
theorem mrS_fge : ∀ (l : List FiR) (s : MrS), s.1 ≤ (l.foldl mrS s).1 ∧ s.2.2.2 ≤ (l.foldl mrS s).2.2.2 := sorry
theorem knU_len {kn : List (List Int)} {k : List Int} : kn.length ≤ (knU kn k).length ∧ (knU kn k).length ≤ kn.length + 1 := sorry
theorem set_sm {α : Type} {L : List α} {j : Nat} {x : α} (h : L[j]? = some x) : L.set j x = L := sorry
section MSO
variable {ω : AO} {d G : Nat} {Θ : Th} {o hb hs : Int} {F Fb Fs : List Int} {L : List It} {io jb js : Nat} {kb ks : List (List Int)} {Mb Ms : List Int → Int} {FB : List FiR} {kf : Nat}
/-- both maps of messages -/
def mpL (L : List It) (jb js : Nat) (hb hs : Int) (Fb Fs : List Int) (kb ks : List (List Int)) (Mb Ms : List Int → Int) : List It := (L.set jb (hmS hb Fb (kb.length : Int) Mb)).set js (hmS hs Fs (ks.length : Int) Ms)
theorem mpL_at {i : Nat} {x : It} (h : L[i]? = some x) (h1 : i ≠ jb) (h2 : i ≠ js) : (mpL L jb js hb hs Fb Fs kb ks Mb Ms)[i]? = some x := sorry
theorem mpL_b (hj : jb < L.length) (hne : jb ≠ js) : (mpL L jb js hb hs Fb Fs kb ks Mb Ms)[jb]? = some (hmS hb Fb (kb.length : Int) Mb) := sorry
theorem mpL_s (hj : js < L.length) : (mpL L jb js hb hs Fb Fs kb ks Mb Ms)[js]? = some (hmS hs Fs (ks.length : Int) Ms) := sorry
theorem mpL_sb {F' : List Int} {k' : List (List Int)} {M' : List Int → Int} (hne : jb ≠ js) : (mpL L jb js hb hs Fb Fs kb ks Mb Ms).set jb (hmS hb F' (k'.length : Int) M') = mpL L jb js hb hs F' Fs k' ks M' Ms := sorry
theorem mpL_ss {F' : List Int} {k' : List (List Int)} {M' : List Int → Int} : (mpL L jb js hb hs Fb Fs kb ks Mb Ms).set js (hmS hs F' (k'.length : Int) M') = mpL L jb js hb hs Fb F' kb k' Mb M' := by
  unfold mpL
  rw [List.set_set]
theorem mesF_n2 {so : Int} {l : List Int} (h : ¬ so = 2) : mesF so l = mesF 1 l := sorry
theorem lsM_n2 {so : Int} {r : Int} {l : List Int} (h : ¬ so = 2) : lsM so Θ r l ↔ lsM 1 Θ r l := by unfold lsM; rw [mesF_n2 h]
theorem u_X1_messagesOf {Q : Int → Th → Prop} {r : FiR} (hd : 22 ≤ d) (hne : jb ≠ js) (hjb : jb < L.length) (hjs : js < L.length) (hO : OwS Θ (mpL L jb js hb hs Fb Fs kb ks Mb Ms)) (hio : (mpL L jb js hb hs Fb Fs kb ks Mb Ms)[io]? = some (obj o (15, F, 0, 0))) (h9 : gt F 9 = hb) (h10 : gt F 10 = hs) (hx : ∃ ir : Nat, (mpL L jb js hb hs Fb Fs kb ks Mb Ms)[ir]? = some (obj r.1 (26, r.2.1, 0, 0))) (hz : FiZ Θ r) (hw : wide r.2.2.2.1 = 0) (hl : len r.2.2.2.1 ≤ 10000)
    (hVb : MpV (lsM 2) Θ kb Mb) (hVs : MpV (lsM 1) Θ ks Ms) (hkb : kb.length < 90000) (hks : ks.length < 90000) (hG : (moS (kb, ks, 0) r).2.2 ≤ (G : Int))
    (hQ : ∀ x Θ' Fb' Fs' Mb' Ms', OwT Θ (mpL L jb js hb hs Fb Fs kb ks Mb Ms) Θ' (mpL L jb js hb hs Fb' Fs' (moS (kb, ks, 0) r).1 (moS (kb, ks, 0) r).2.1 Mb' Ms') → MpV (lsM 2) Θ' (moS (kb, ks, 0) r).1 Mb' → MpV (lsM 1) Θ' (moS (kb, ks, 0) r).2.1 Ms' → LxO MsO Θ' x (mesF (lbS r.2.2.1) r.2.2.2.1) → 0 ≤ x → Q x Θ') : w2_X1_messagesOf ω d G o r.1 Θ Q := sorry
theorem u_X1_messagesToRead {Q : Int → Th → Prop} (hd : 24 ≤ d) (hne : jb ≠ js) (hjb : jb < L.length) (hjs : js < L.length) (hO : OwS Θ (mpL L jb js hb hs Fb Fs kb ks Mb Ms)) (hio : L[io]? = some (obj o (15, F, 0, 0))) (hion : io ≠ jb ∧ io ≠ js) (h9 : gt F 9 = hb) (h10 : gt F 10 = hs) (hfl : ∃ (jf : Nat) (cf : Int), L[jf]? = some (lsI (gt F 5) (fad FB) cf) ∧ jf ≠ jb ∧ jf ≠ js) (hx : ∀ (k : Nat) r, FB[k]? = some r → L[k + kf]? = some (obj r.1 (26, r.2.1, 0, 0)) ∧ k + kf ≠ jb ∧ k + kf ≠ js) (hz : ∀ r, r ∈ FB → FiZ Θ r ∧ wide r.2.2.2.1 = 0 ∧ len r.2.2.2.1 ≤ 10000)
    (hVb : MpV (lsM 2) Θ kb Mb) (hVs : MpV (lsM 1) Θ ks Ms) (hkb : kb.length + FB.length < 90000) (hks : ks.length + FB.length < 90000) (hn : (FB.foldl mrS (0, kb, ks, 0)).1 < 2147483648) (hG : (FB.foldl mrS (0, kb, ks, 0)).2.2.2 ≤ (G : Int))
    (hQ : ∀ Θ' Fb' Fs' Mb' Ms', OwT Θ (mpL L jb js hb hs Fb Fs kb ks Mb Ms) Θ' (mpL L jb js hb hs Fb' Fs' (FB.foldl mrS (0, kb, ks, 0)).2.1 (FB.foldl mrS (0, kb, ks, 0)).2.2.1 Mb' Ms') → MpV (lsM 2) Θ' (FB.foldl mrS (0, kb, ks, 0)).2.1 Mb' → MpV (lsM 1) Θ' (FB.foldl mrS (0, kb, ks, 0)).2.2.1 Ms' → Q (FB.foldl mrS (0, kb, ks, 0)).1 Θ') : w2_X1_messagesToRead ω d G o Θ Q := sorry
end MSO

/-! 87.ae.lean.txt -/
/-! rows, row, conversation -/
set_option maxRecDepth 100000
set_option maxHeartbeats 4000000
theorem dv_wI {x : Int} : dv (0, wI x) = dv (0, x) := sorry
/-- a local may be taken round -/
theorem w17_wrap {ω : AO} {d G : Nat} {l0 l2 l3 l4 : Int} {g : Nat} {Θ : Th} {Q : Int → Th → Prop} (h : W2_X1_conversation_17 ω d G l0 l2 (wI l3) l4 g Θ Q) : W2_X1_conversation_17 ω d G l0 l2 l3 l4 g Θ Q := sorry
/-- what a box is in, up to the end -/
def upB (u : Int → Int) : Nat → Int → Prop
  | 0, j => u j < 0
  | n + 1, j => u j < 0 ∨ upB u n (u j)
def dpF (u : Int → Int) : Nat → Int → Int
  | 0, _ => 0
  | n + 1, j => if u j < 0 then 0 else 1 + dpF u n (u j)
def rtF (u : Int → Int) : Nat → Int → Int
  | 0, j => j
  | n + 1, j => if u j < 0 then j else rtF u n (u j)
theorem dpF_c {u : Int → Int} {n : Nat} {j : Int} : dpF u (n + 1) j = if u j < 0 then 0 else 1 + dpF u n (u j) := rfl
theorem rtF_c {u : Int → Int} {n : Nat} {j : Int} : rtF u (n + 1) j = if u j < 0 then j else rtF u n (u j) := rfl
theorem dpF_in {u : Int → Int} : ∀ (n : Nat) (j : Int), 0 ≤ dpF u n j ∧ dpF u n j ≤ (n : Int) := sorry
/-- all that threads see -/
def ThV (Θ : Th) (o : Int) (F W ML : List Int) (MF : Int → List Int) (s : Fo) (l : List Int) (rw bx : Int → Int) (there : Int → Bool) : Prop :=
  xo Θ o = (15, F, 0, 0) ∧ (∃ c e, xo Θ (gt F 13) = (3, l.map (gt W), c, e)) ∧ (∃ c e, xo Θ (gt F 6) = (3, ML, c, e)) ∧
  (∀ j, 0 ≤ j → j < s.1 → 0 ≤ gt W j ∧ ∃ li t f, xo Θ (gt W j) = (65, [if s.2.1 j < 0 then -1 else gt ML (s.2.1 j), adr W (s.2.2.1 j), li, 1, t, f, rw j], 0, 0) ∧ ∃ c e, xo Θ li = (3, (s.2.2.2 j).map (adr W), c, e)) ∧
  (∀ n, 0 ≤ n → n < len ML → 0 ≤ gt ML n ∧ xo Θ (gt ML n) = (29, MF n, 0, 0) ∧ gt (MF n) 0 = n ∧ (∃ ps c e, xo Θ (gt (MF n) 4) = (3, ps, c, e) ∧ (there n = true ↔ ps ≠ [])) ∧ (there n = true → (0 ≤ bx n ∧ bx n < s.1) ∧ gt (MF n) 10 = gt W (bx n)))
/-- and what holds of the numbers -/
def ThP (ML : List Int) (s : Fo) (l : List Int) : Prop := (∀ i, 0 ≤ i → i < len l → 0 ≤ gt l i ∧ gt l i < s.1) ∧ (∀ j, s.2.1 j < len ML) ∧ (∀ j, s.2.2.1 j = -1 ∨ (0 ≤ s.2.2.1 j ∧ s.2.2.1 j < s.1)) ∧ s.1 < 1000000
theorem ThV.gr {Θ Θ1 : Th} {o : Int} {F W ML : List Int} {MF : Int → List Int} {s : Fo} {l : List Int} {rw bx : Int → Int} {there : Int → Bool} (h : ThV Θ o F W ML MF s l rw bx there) (g : Gr Θ Θ1) : ThV Θ1 o F W ML MF s l rw bx there := sorry
/-- what a row says -/
def roR (s : Fo) (l : List Int) (rw : Int → Int) (k w : Int) : Int :=
  if 0 ≤ k ∧ k < len l then
    (if w = 0 then (if s.2.1 (gt l k) < 0 then -1 else s.2.1 (gt l k)) else if w = 1 then dpF s.2.2.1 s.1.toNat (gt l k) else if w = 2 then (if s.2.2.1 (gt l k) < 0 then -1 else rw (s.2.2.1 (gt l k))) else if w = 3 then len (s.2.2.2 (gt l k)) else -1)
  else -1
section ROW
variable {ω : AO} {d G Gt : Nat} {Θ : Th} {o l1 l2 : Int} {F W ML rsF : List Int} {MF : Int → List Int} {s : Fo} {l D : List Int} {rw bx : Int → Int} {there : Int → Bool} {P : Th → Prop}
theorem u_X1_rows {Q : Int → Th → Prop} (hd : 2 ≤ d) (ho : kd Θ o = 15) (hT : ∀ Q' : Th → Prop, (∀ Θ', P Θ' → Q' Θ') → w2_X1_thread ω (d - 1) Gt o Θ Q') (hV : ∀ Θ', P Θ' → ThV Θ' o F W ML MF s l rw bx there) (hG : Gt ≤ G) (hQ : ∀ Θ', P Θ' → Q (len l) Θ') : w2_X1_rows ω d G o Θ Q := sorry
theorem u_ro92 {Q : Int → Th → Prop} {g : Nat} (hV : ThV Θ o F W ML MF s l rw bx there) (hP : ThP ML s l) (hg : g ≤ G) : ∀ (n : Nat) (j x : Int), upB s.2.2.1 n j → 0 ≤ x → x + (n : Int) < 2147483648 → Q (x + dpF s.2.2.1 n j) Θ → W2_X1_row_92 ω d G x (adr W (s.2.2.1 j)) g Θ Q := sorry
theorem u_X1_row {Q : Int → Th → Prop} (hd : 6 ≤ d) (ho : kd Θ o = 15) (hl1 : inI l1) (hl2 : inI l2) (hT : ∀ Q' : Th → Prop, (∀ Θ', P Θ' → Q' Θ') → w2_X1_thread ω (d - 1) Gt o Θ Q') (hV : ∀ Θ', P Θ' → ThV Θ' o F W ML MF s l rw bx there) (hP : ThP ML s l) (hup : ∀ i, 0 ≤ i → i < len l → upB s.2.2.1 s.1.toNat (gt l i)) (hG : Gt ≤ G) (hQ : ∀ Θ', P Θ' → Q (roR s l rw l1 l2) Θ') : w2_X1_row ω d G o l1 l2 Θ Q := sorry
end ROW
/-- the conversation of a hit -/
def cvD (there : Int → Bool) (rt : Int → Int) : List Int → (Int → Bool) → Int → Int
  | [], _, _ => -1
  | a :: r, f, left => if there a = true then (if f (rt a) = true then cvD there rt r f left else if left = 0 then rt a else cvD there rt r (fun j => f j || decide (j = rt a)) (wI (left - 1))) else cvD there rt r f left
/-- what it costs -/
def cvB (there : Int → Bool) (rt : Int → Int) : List Int → (Int → Bool) → Int → Int → Int
  | [], _, _, _ => 0
  | a :: r, f, nb, left => if there a = true then (if f (rt a) = true then cvB there rt r f nb left else bmG nb (rt a / 64 + 1) + (if left = 0 then 0 else cvB there rt r (fun j => f j || decide (j = rt a)) (bmN nb (rt a / 64 + 1)) (wI (left - 1)))) else cvB there rt r f nb left
theorem cvD_c {there : Int → Bool} {rt : Int → Int} {a left : Int} {r : List Int} {f : Int → Bool} : cvD there rt (a :: r) f left = if there a = true then (if f (rt a) = true then cvD there rt r f left else if left = 0 then rt a else cvD there rt r (fun j => f j || decide (j = rt a)) (wI (left - 1))) else cvD there rt r f left := rfl
theorem cvB_c {there : Int → Bool} {rt : Int → Int} {a nb left : Int} {r : List Int} {f : Int → Bool} : cvB there rt (a :: r) f nb left = if there a = true then (if f (rt a) = true then cvB there rt r f nb left else bmG nb (rt a / 64 + 1) + (if left = 0 then 0 else cvB there rt r (fun j => f j || decide (j = rt a)) (bmN nb (rt a / 64 + 1)) (wI (left - 1)))) else cvB there rt r f nb left := rfl
theorem bmG_n0 {n k : Int} (h : 0 ≤ n) : 0 ≤ bmG n k := sorry
theorem bmN_n4 {n k : Int} (h : 0 ≤ n ∧ n ≤ 4000) (hk : k ≤ 2000) : 0 ≤ bmN n k ∧ bmN n k ≤ 4000 := sorry
theorem cvB_nn {there : Int → Bool} {rt : Int → Int} : ∀ (r : List Int) (f : Int → Bool) (nb left : Int), 0 ≤ nb → 0 ≤ cvB there rt r f nb left := sorry
section CVS
variable {ω : AO} {d G Gt : Nat} {Θ : Th} {o l1 : Int} {F W ML : List Int} {MF : Int → List Int} {s : Fo} {l D : List Int} {rw bx rt : Int → Int} {there : Int → Bool} {P : Th → Prop}
/-- up to the root -/
theorem u_cv74 {Q : Int → Th → Prop} {g : Nat} {v3 c nb : Int} {f : Int → Bool} {i left rr : Int} (hd : 6 ≤ d) (hV : ThV Θ o F W ML MF s l rw bx there) (hP : ThP ML s l) (hb : BtO Θ v3 c nb f) (hnb : 0 ≤ nb ∧ nb ≤ 4000) (hl : inI left) (hrr : 0 ≤ rr ∧ rr ≤ 100000) (hg : (g : Int) + (if f rr = true then 0 else bmG nb (rr / 64 + 1)) ≤ (G : Int))
    (hQ1 : f rr = true → W2_X1_conversation_17 ω d G o v3 left (i + 1) g Θ Q)
    (hQ2 : ¬ f rr = true → ∀ c' Θ' (g' : Nat), GrX (exB v3 c) Θ Θ' → (c' = c ∨ kd Θ c' = 0) → BtO Θ' v3 c' (bmN nb (rr / 64 + 1)) (fun j => f j || decide (j = rr)) → (g' : Int) ≤ (g : Int) + bmG nb (rr / 64 + 1) → (left = 0 → Q rr Θ') ∧ (¬ left = 0 → W2_X1_conversation_17 ω d G o v3 (left + (-1)) (i + 1) g' Θ' Q)) : ∀ (n : Nat) (j : Int), upB s.2.2.1 n j → 0 ≤ j → j < s.1 → rw (rtF s.2.2.1 n j) = rr → W2_X1_conversation_74 ω d G o v3 left i (gt W j) g Θ Q := sorry
theorem u_X1_conversation {Q : Int → Th → Prop} {rsF : List Int} (hd : 8 ≤ d) (ho : kd Θ o = 15) (hl1 : inI l1) (hT : ∀ Q' : Th → Prop, (∀ Θ', P Θ' → Q' Θ') → w2_X1_thread ω (d - 1) Gt o Θ Q') (hV : ∀ Θ', P Θ' → ThV Θ' o F W ML MF s l rw bx there ∧ (∃ c e, xo Θ' (gt F 11) = (3, rsF, c, e)) ∧ all2 (IntO Θ') rsF D) (hP : ThP ML s l) (hD : ∀ a, a ∈ D → 0 ≤ a ∧ a < len ML) (hup : ∀ n, 0 ≤ n → n < len ML → there n = true → upB s.2.2.1 s.1.toNat (bx n) ∧ rw (rtF s.2.2.1 s.1.toNat (bx n)) = rt n ∧ 0 ≤ rt n ∧ rt n ≤ 100000) (hG : (Gt : Int) + 3 + cvB there rt D (fun _ => false) 4 l1 ≤ (G : Int))
    (hQ : ∀ Θ1 Θ', P Θ1 → Gr Θ1 Θ' → Q (cvD there rt D (fun _ => false) l1) Θ') : w2_X1_conversation ω d G o l1 Θ Q := sorry
end CVS

