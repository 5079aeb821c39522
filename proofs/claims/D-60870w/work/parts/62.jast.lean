/-! 57.xa.lean.txt -/
/-! leaves: characters, small numbers -/
set_option maxRecDepth 100000
abbrev chBl (c : Int) : Prop := c = 32 ∨ c = 9
abbrev chDg (c : Int) : Prop := 48 ≤ c ∧ c ≤ 57
abbrev chSm (c : Int) : Prop := 97 ≤ c ∧ c ≤ 122
abbrev chLt (c : Int) : Prop := (97 ≤ c ∧ c ≤ 122) ∨ (65 ≤ c ∧ c ≤ 90)
abbrev chNm (c : Int) : Prop := (97 ≤ c ∧ c ≤ 122) ∨ (65 ≤ c ∧ c ≤ 90) ∨ (48 ≤ c ∧ c ≤ 57) ∨ c = 45
abbrev chNo (c : Int) : Prop := c ≤ 32 ∨ c = 127
abbrev chWB (c : Int) : Prop := c = 9 ∨ c = 10 ∨ c = 13 ∨ c = 32
abbrev chWL (c : Int) : Prop := (65 ≤ c ∧ c ≤ 90) ∨ (97 ≤ c ∧ c ≤ 122) ∨ (192 ≤ c ∧ c < 688 ∧ c ≠ 215 ∧ c ≠ 247) ∨ (880 ≤ c ∧ c < 1424 ∧ c ≠ 894 ∧ c ≠ 903 ∧ (c < 1154 ∨ 1161 < c))
abbrev chWP (c : Int) : Prop := chWL c ∨ (48 ≤ c ∧ c ≤ 57)
abbrev chVo (c : Int) : Prop := c = 97 ∨ c = 101 ∨ c = 105 ∨ c = 111 ∨ c = 117
abbrev chJo (c : Int) : Prop := c = 39 ∨ c = 46 ∨ c = 95 ∨ c = 45 ∨ c = 64
abbrev chQP (c : Int) : Prop := 32 < c ∧ c < 127 ∧ c ≠ 40 ∧ c ≠ 41 ∧ c ≠ 34 ∧ c ≠ 58
def hxF (c : Int) : Int := if 48 ≤ c ∧ c ≤ 57 then c - 48 else if 97 ≤ c ∧ c ≤ 102 then c - 87 else if 65 ≤ c ∧ c ≤ 70 then c - 55 else -1
def loF (f k : Int) : Int := if 1 < k then 128 else if f = 224 then 160 else if f = 240 then 144 else 128
def hiF (f k : Int) : Int := if 1 < k then 191 else if f = 237 then 159 else if f = 244 then 143 else 191
abbrev leapP (y : Int) : Prop := Int.tmod y 4 = 0 ∧ (Int.tmod y 100 ≠ 0 ∨ Int.tmod y 400 = 0)
def mdF (y m : Int) : Int := if m = 2 then (if leapP y then 29 else 28) else if m = 4 ∨ m = 6 ∨ m = 9 ∨ m = 11 then 30 else 31
def smW (c : Int) : Int :=
  if (65 ≤ c ∧ c ≤ 90) ∨ (192 ≤ c ∧ c ≤ 222 ∧ c ≠ 215) ∨ (913 ≤ c ∧ c ≤ 939 ∧ c ≠ 930) ∨ (1040 ≤ c ∧ c ≤ 1071) then c + 32
  else if 1024 ≤ c ∧ c ≤ 1039 then c + 80
  else if (256 ≤ c ∧ c ≤ 311) ∨ (330 ≤ c ∧ c ≤ 375) ∨ (1120 ≤ c ∧ c ≤ 1153) ∨ (1162 ≤ c ∧ c ≤ 1215) then (if c % 2 = 0 then c + 1 else c)
  else if (313 ≤ c ∧ c ≤ 328) ∨ (377 ≤ c ∧ c ≤ 382) then (if c % 2 = 1 then c + 1 else c)
  else if c = 376 then 255 else if c = 902 then 940 else if 904 ≤ c ∧ c ≤ 906 then c + 37 else if c = 908 then 972 else if c = 910 ∨ c = 911 then c + 63 else c
theorem orI1 {c : Int} (h : 0 ≤ c ∧ c < 2147483648) : orI c 1 = if c % 2 = 0 then c + 1 else c := sorry
def w2_X27_isNothing (ω : AO) (d G : Nat) (l0 : Int) (Θ : Th) (Q : Int → Th → Prop) : Prop := Hid (∀ S, bel S → R2 ω S Θ → Ctr ω yX27_isNothing cX27_isNothing 1 (some .boolean) d G [(0, l0)] S (eZ S (q2 ω Θ Q)))
set_option maxHeartbeats 4000000 in
theorem s2_X27_isNothing {ω : AO} {d G : Nat} {l0 : Int} {Θ : Th} {Q : Int → Th → Prop} (hB : (-2147483648 ≤ l0 ∧ l0 < 2147483648) ∧ (∀ (c3 : l0 ≤ 32), Q 1 Θ) ∧ (∀ (c3 : 32 < l0), (∀ (c9 : ¬ l0 = 127), Q 0 Θ) ∧ (∀ (c9 : l0 = 127), Q 1 Θ))) : w2_X27_isNothing ω d G l0 Θ Q := sorry
theorem u_X27_isNothing {ω : AO} {d G : Nat} {l0 : Int} {Θ : Th} {Q : Int → Th → Prop} (hd : 0 ≤ d) (h0 : inI l0) (hQ : ∀ x, x = (if chNo l0 then 1 else 0) → Q x Θ) : w2_X27_isNothing ω d G l0 Θ Q := sorry
def w2_X12_isBlank (ω : AO) (d G : Nat) (l0 : Int) (Θ : Th) (Q : Int → Th → Prop) : Prop := Hid (∀ S, bel S → R2 ω S Θ → Ctr ω yX12_isBlank cX12_isBlank 1 (some .boolean) d G [(0, l0)] S (eZ S (q2 ω Θ Q)))
set_option maxHeartbeats 4000000 in
theorem s2_X12_isBlank {ω : AO} {d G : Nat} {l0 : Int} {Θ : Th} {Q : Int → Th → Prop} (hB : (-2147483648 ≤ l0 ∧ l0 < 2147483648) ∧ (∀ (c3 : l0 = 32), Q 1 Θ) ∧ (∀ (c3 : ¬ l0 = 32), (∀ (c9 : ¬ l0 = 9), Q 0 Θ) ∧ (∀ (c9 : l0 = 9), Q 1 Θ))) : w2_X12_isBlank ω d G l0 Θ Q := sorry
theorem u_X12_isBlank {ω : AO} {d G : Nat} {l0 : Int} {Θ : Th} {Q : Int → Th → Prop} (hd : 0 ≤ d) (h0 : inI l0) (hQ : ∀ x, x = (if chBl l0 then 1 else 0) → Q x Θ) : w2_X12_isBlank ω d G l0 Θ Q := sorry
def w2_X12_isDigit (ω : AO) (d G : Nat) (l0 : Int) (Θ : Th) (Q : Int → Th → Prop) : Prop := Hid (∀ S, bel S → R2 ω S Θ → Ctr ω yX12_isDigit cX12_isDigit 1 (some .boolean) d G [(0, l0)] S (eZ S (q2 ω Θ Q)))
set_option maxHeartbeats 4000000 in
theorem s2_X12_isDigit {ω : AO} {d G : Nat} {l0 : Int} {Θ : Th} {Q : Int → Th → Prop} (hB : (-2147483648 ≤ l0 ∧ l0 < 2147483648) ∧ (∀ (c3 : l0 < 48), Q 0 Θ) ∧ (∀ (c3 : 48 ≤ l0), (∀ (c9 : 57 < l0), Q 0 Θ) ∧ (∀ (c9 : l0 ≤ 57), Q 1 Θ))) : w2_X12_isDigit ω d G l0 Θ Q := sorry
theorem u_X12_isDigit {ω : AO} {d G : Nat} {l0 : Int} {Θ : Th} {Q : Int → Th → Prop} (hd : 0 ≤ d) (h0 : inI l0) (hQ : ∀ x, x = (if chDg l0 then 1 else 0) → Q x Θ) : w2_X12_isDigit ω d G l0 Θ Q := sorry
def w2_X12_isSmall (ω : AO) (d G : Nat) (l0 : Int) (Θ : Th) (Q : Int → Th → Prop) : Prop := Hid (∀ S, bel S → R2 ω S Θ → Ctr ω yX12_isSmall cX12_isSmall 1 (some .boolean) d G [(0, l0)] S (eZ S (q2 ω Θ Q)))
set_option maxHeartbeats 4000000 in
theorem s2_X12_isSmall {ω : AO} {d G : Nat} {l0 : Int} {Θ : Th} {Q : Int → Th → Prop} (hB : (-2147483648 ≤ l0 ∧ l0 < 2147483648) ∧ (∀ (c3 : l0 < 97), Q 0 Θ) ∧ (∀ (c3 : 97 ≤ l0), (∀ (c9 : 122 < l0), Q 0 Θ) ∧ (∀ (c9 : l0 ≤ 122), Q 1 Θ))) : w2_X12_isSmall ω d G l0 Θ Q := sorry
theorem u_X12_isSmall {ω : AO} {d G : Nat} {l0 : Int} {Θ : Th} {Q : Int → Th → Prop} (hd : 0 ≤ d) (h0 : inI l0) (hQ : ∀ x, x = (if chSm l0 then 1 else 0) → Q x Θ) : w2_X12_isSmall ω d G l0 Θ Q := sorry
theorem lm_X12_23 : SLk RX12 23 yX12_isSmall cX12_isSmall 1 (some .boolean) 1 := sorry
def w2_X12_isLetter (ω : AO) (d G : Nat) (l0 : Int) (Θ : Th) (Q : Int → Th → Prop) : Prop := Hid (∀ S, bel S → R2 ω S Θ → Ctr ω yX12_isLetter cX12_isLetter 1 (some .boolean) d G [(0, l0)] S (eZ S (q2 ω Θ Q)))
set_option maxHeartbeats 4000000 in
theorem s2_X12_isLetter {ω : AO} {d G : Nat} {l0 : Int} {Θ : Th} {Q : Int → Th → Prop} (hB : (1 ≤ d) ∧ (-2147483648 ≤ l0 ∧ l0 < 2147483648) ∧ ∀ (x1 : Int) (e1 : x1 = if chSm l0 then 1 else 0) (r1 : x1 = 0 ∨ x1 = 1), (∀ (c4 : ¬ x1 = 0), Q 1 Θ) ∧ (∀ (c4 : x1 = 0), (∀ (c10 : l0 < 65), Q 0 Θ) ∧ (∀ (c10 : 65 ≤ l0), (∀ (c16 : 90 < l0), Q 0 Θ) ∧ (∀ (c16 : l0 ≤ 90), Q 1 Θ)))) : w2_X12_isLetter ω d G l0 Θ Q := sorry
theorem u_X12_isLetter {ω : AO} {d G : Nat} {l0 : Int} {Θ : Th} {Q : Int → Th → Prop} (hd : 1 ≤ d) (h0 : inI l0) (hQ : ∀ x, x = (if chLt l0 then 1 else 0) → Q x Θ) : w2_X12_isLetter ω d G l0 Θ Q := sorry
theorem lm_X12_27 : SLk RX12 27 yX12_isLetter cX12_isLetter 1 (some .boolean) 1 := sorry
theorem lm_X12_30 : SLk RX12 30 yX12_isDigit cX12_isDigit 1 (some .boolean) 1 := sorry
def w2_X12_isNamePart (ω : AO) (d G : Nat) (l0 : Int) (Θ : Th) (Q : Int → Th → Prop) : Prop := Hid (∀ S, bel S → R2 ω S Θ → Ctr ω yX12_isNamePart cX12_isNamePart 1 (some .boolean) d G [(0, l0)] S (eZ S (q2 ω Θ Q)))
set_option maxHeartbeats 4000000 in
theorem s2_X12_isNamePart {ω : AO} {d G : Nat} {l0 : Int} {Θ : Th} {Q : Int → Th → Prop} (hB : (1 ≤ d) ∧ (-2147483648 ≤ l0 ∧ l0 < 2147483648) ∧ (2 ≤ d) ∧ ∀ (x1 : Int) (e1 : x1 = if chLt l0 then 1 else 0) (r1 : x1 = 0 ∨ x1 = 1), (∀ (c4 : ¬ x1 = 0), Q 1 Θ) ∧ (∀ (c4 : x1 = 0), ∀ (x8 : Int) (e8 : x8 = if chDg l0 then 1 else 0) (r8 : x8 = 0 ∨ x8 = 1), (∀ (c11 : ¬ x8 = 0), Q 1 Θ) ∧ (∀ (c11 : x8 = 0), (∀ (c17 : ¬ l0 = 45), Q 0 Θ) ∧ (∀ (c17 : l0 = 45), Q 1 Θ)))) : w2_X12_isNamePart ω d G l0 Θ Q := sorry
theorem u_X12_isNamePart {ω : AO} {d G : Nat} {l0 : Int} {Θ : Th} {Q : Int → Th → Prop} (hd : 2 ≤ d) (h0 : inI l0) (hQ : ∀ x, x = (if chNm l0 then 1 else 0) → Q x Θ) : w2_X12_isNamePart ω d G l0 Θ Q := sorry
def w2_X1_isBlank (ω : AO) (d G : Nat) (l0 : Int) (Θ : Th) (Q : Int → Th → Prop) : Prop := Hid (∀ S, bel S → R2 ω S Θ → Ctr ω yX1_isBlank cX1_isBlank 1 (some .boolean) d G [(0, l0)] S (eZ S (q2 ω Θ Q)))
set_option maxHeartbeats 4000000 in
theorem s2_X1_isBlank {ω : AO} {d G : Nat} {l0 : Int} {Θ : Th} {Q : Int → Th → Prop} (hB : (-2147483648 ≤ l0 ∧ l0 < 2147483648) ∧ (∀ (c3 : l0 = 32), Q 1 Θ) ∧ (∀ (c3 : ¬ l0 = 32), (∀ (c9 : ¬ l0 = 9), Q 0 Θ) ∧ (∀ (c9 : l0 = 9), Q 1 Θ))) : w2_X1_isBlank ω d G l0 Θ Q := sorry
theorem u_X1_isBlank {ω : AO} {d G : Nat} {l0 : Int} {Θ : Th} {Q : Int → Th → Prop} (hd : 0 ≤ d) (h0 : inI l0) (hQ : ∀ x, x = (if chBl l0 then 1 else 0) → Q x Θ) : w2_X1_isBlank ω d G l0 Θ Q := sorry
def w2_X44_isPlain (ω : AO) (d G : Nat) (l0 : Int) (Θ : Th) (Q : Int → Th → Prop) : Prop := Hid (∀ S, bel S → R2 ω S Θ → Ctr ω yX44_isPlain cX44_isPlain 1 (some .boolean) d G [(0, l0)] S (eZ S (q2 ω Θ Q)))
def W2_X44_isPlain_12 (ω : AO) (d G : Nat) (l0 : Int) (g : Nat) (Θ : Th) (Q : Int → Th → Prop) : Prop := Hid (SJ2 ω yX44_isPlain cX44_isPlain 1 (some .boolean) d G (fun S0 Θ0 => (eZ S0 (q2 ω Θ0 Q))) 12 [(0, l0)] [] g Θ)
set_option maxHeartbeats 4000000 in
theorem s2_X44_isPlain {ω : AO} {d G : Nat} {l0 : Int} {Θ : Th} {Q : Int → Th → Prop} (hB : (-2147483648 ≤ l0 ∧ l0 < 2147483648) ∧ (∀ (c3 : l0 < 65), W2_X44_isPlain_12 ω d G l0 (0) Θ Q) ∧ (∀ (c3 : 65 ≤ l0), (∀ (c9 : l0 ≤ 90), Q 1 Θ) ∧ (∀ (c9 : 90 < l0), W2_X44_isPlain_12 ω d G l0 (0) Θ Q))) : w2_X44_isPlain ω d G l0 Θ Q := sorry
set_option maxHeartbeats 4000000 in
theorem s2_X44_isPlain_12 {ω : AO} {d G : Nat} {l0 : Int} {g : Nat} {Θ : Th} {Q : Int → Th → Prop} (hB : (-2147483648 ≤ l0 ∧ l0 < 2147483648) ∧ (∀ (c15 : l0 < 97), (g ≤ G) ∧ Q 0 Θ) ∧ (∀ (c15 : 97 ≤ l0), (∀ (c21 : 122 < l0), (g ≤ G) ∧ Q 0 Θ) ∧ (∀ (c21 : l0 ≤ 122), (g ≤ G) ∧ Q 1 Θ))) : W2_X44_isPlain_12 ω d G l0 g Θ Q := sorry
theorem u_X44_isPlain {ω : AO} {d G : Nat} {l0 : Int} {Θ : Th} {Q : Int → Th → Prop} (hd : 0 ≤ d) (h0 : inI l0) (hQ : ∀ x, x = (if chLt l0 then 1 else 0) → Q x Θ) : w2_X44_isPlain ω d G l0 Θ Q := sorry
def w2_X44_isDigit (ω : AO) (d G : Nat) (l0 : Int) (Θ : Th) (Q : Int → Th → Prop) : Prop := Hid (∀ S, bel S → R2 ω S Θ → Ctr ω yX44_isDigit cX44_isDigit 1 (some .boolean) d G [(0, l0)] S (eZ S (q2 ω Θ Q)))
set_option maxHeartbeats 4000000 in
theorem s2_X44_isDigit {ω : AO} {d G : Nat} {l0 : Int} {Θ : Th} {Q : Int → Th → Prop} (hB : (-2147483648 ≤ l0 ∧ l0 < 2147483648) ∧ (∀ (c3 : l0 < 48), Q 0 Θ) ∧ (∀ (c3 : 48 ≤ l0), (∀ (c9 : 57 < l0), Q 0 Θ) ∧ (∀ (c9 : l0 ≤ 57), Q 1 Θ))) : w2_X44_isDigit ω d G l0 Θ Q := sorry
theorem u_X44_isDigit {ω : AO} {d G : Nat} {l0 : Int} {Θ : Th} {Q : Int → Th → Prop} (hd : 0 ≤ d) (h0 : inI l0) (hQ : ∀ x, x = (if chDg l0 then 1 else 0) → Q x Θ) : w2_X44_isDigit ω d G l0 Θ Q := sorry
def w2_X44_isBlank (ω : AO) (d G : Nat) (l0 : Int) (Θ : Th) (Q : Int → Th → Prop) : Prop := Hid (∀ S, bel S → R2 ω S Θ → Ctr ω yX44_isBlank cX44_isBlank 1 (some .boolean) d G [(0, l0)] S (eZ S (q2 ω Θ Q)))
set_option maxHeartbeats 4000000 in
theorem s2_X44_isBlank {ω : AO} {d G : Nat} {l0 : Int} {Θ : Th} {Q : Int → Th → Prop} (hB : (-2147483648 ≤ l0 ∧ l0 < 2147483648) ∧ (∀ (c3 : l0 = 9), Q 1 Θ) ∧ (∀ (c3 : ¬ l0 = 9), (∀ (c9 : l0 = 10), Q 1 Θ) ∧ (∀ (c9 : ¬ l0 = 10), (∀ (c15 : l0 = 13), Q 1 Θ) ∧ (∀ (c15 : ¬ l0 = 13), (∀ (c21 : ¬ l0 = 32), Q 0 Θ) ∧ (∀ (c21 : l0 = 32), Q 1 Θ))))) : w2_X44_isBlank ω d G l0 Θ Q := sorry
theorem u_X44_isBlank {ω : AO} {d G : Nat} {l0 : Int} {Θ : Th} {Q : Int → Th → Prop} (hd : 0 ≤ d) (h0 : inI l0) (hQ : ∀ x, x = (if chWB l0 then 1 else 0) → Q x Θ) : w2_X44_isBlank ω d G l0 Θ Q := sorry
def w2_X44_isLetter (ω : AO) (d G : Nat) (l0 : Int) (Θ : Th) (Q : Int → Th → Prop) : Prop := Hid (∀ S, bel S → R2 ω S Θ → Ctr ω yX44_isLetter cX44_isLetter 1 (some .boolean) d G [(0, l0)] S (eZ S (q2 ω Θ Q)))
def W2_X44_isLetter_12 (ω : AO) (d G : Nat) (l0 : Int) (g : Nat) (Θ : Th) (Q : Int → Th → Prop) : Prop := Hid (SJ2 ω yX44_isLetter cX44_isLetter 1 (some .boolean) d G (fun S0 Θ0 => (eZ S0 (q2 ω Θ0 Q))) 12 [(0, l0)] [] g Θ)
def W2_X44_isLetter_24 (ω : AO) (d G : Nat) (l0 : Int) (g : Nat) (Θ : Th) (Q : Int → Th → Prop) : Prop := Hid (SJ2 ω yX44_isLetter cX44_isLetter 1 (some .boolean) d G (fun S0 Θ0 => (eZ S0 (q2 ω Θ0 Q))) 24 [(0, l0)] [] g Θ)
def W2_X44_isLetter_52 (ω : AO) (d G : Nat) (l0 : Int) (g : Nat) (Θ : Th) (Q : Int → Th → Prop) : Prop := Hid (SJ2 ω yX44_isLetter cX44_isLetter 1 (some .boolean) d G (fun S0 Θ0 => (eZ S0 (q2 ω Θ0 Q))) 52 [(0, l0)] [] g Θ)
set_option maxHeartbeats 4000000 in
theorem s2_X44_isLetter {ω : AO} {d G : Nat} {l0 : Int} {Θ : Th} {Q : Int → Th → Prop} (hB : (-2147483648 ≤ l0 ∧ l0 < 2147483648) ∧ (∀ (c3 : l0 < 65), W2_X44_isLetter_12 ω d G l0 (0) Θ Q) ∧ (∀ (c3 : 65 ≤ l0), (∀ (c9 : l0 ≤ 90), Q 1 Θ) ∧ (∀ (c9 : 90 < l0), W2_X44_isLetter_12 ω d G l0 (0) Θ Q))) : w2_X44_isLetter ω d G l0 Θ Q := sorry
set_option maxHeartbeats 4000000 in
theorem s2_X44_isLetter_12 {ω : AO} {d G : Nat} {l0 : Int} {g : Nat} {Θ : Th} {Q : Int → Th → Prop} (hB : (-2147483648 ≤ l0 ∧ l0 < 2147483648) ∧ (∀ (c15 : l0 < 97), W2_X44_isLetter_24 ω d G l0 (g) Θ Q) ∧ (∀ (c15 : 97 ≤ l0), (∀ (c21 : l0 ≤ 122), (g ≤ G) ∧ Q 1 Θ) ∧ (∀ (c21 : 122 < l0), W2_X44_isLetter_24 ω d G l0 (g) Θ Q))) : W2_X44_isLetter_12 ω d G l0 g Θ Q := sorry
set_option maxHeartbeats 4000000 in
theorem s2_X44_isLetter_24 {ω : AO} {d G : Nat} {l0 : Int} {g : Nat} {Θ : Th} {Q : Int → Th → Prop} (hB : (-2147483648 ≤ l0 ∧ l0 < 2147483648) ∧ (∀ (c28 : l0 < 192), W2_X44_isLetter_52 ω d G l0 (g) Θ Q) ∧ (∀ (c28 : 192 ≤ l0), (∀ (c35 : 688 ≤ l0), W2_X44_isLetter_52 ω d G l0 (g) Θ Q) ∧ (∀ (c35 : l0 < 688), (∀ (c42 : l0 = 215), W2_X44_isLetter_52 ω d G l0 (g) Θ Q) ∧ (∀ (c42 : ¬ l0 = 215), (∀ (c49 : ¬ l0 = 247), (g ≤ G) ∧ Q 1 Θ) ∧ (∀ (c49 : l0 = 247), W2_X44_isLetter_52 ω d G l0 (g) Θ Q))))) : W2_X44_isLetter_24 ω d G l0 g Θ Q := sorry
set_option maxHeartbeats 4000000 in
theorem s2_X44_isLetter_52 {ω : AO} {d G : Nat} {l0 : Int} {g : Nat} {Θ : Th} {Q : Int → Th → Prop} (hB : (-2147483648 ≤ l0 ∧ l0 < 2147483648) ∧ (∀ (c56 : l0 < 880), (g ≤ G) ∧ Q 0 Θ) ∧ (∀ (c56 : 880 ≤ l0), (∀ (c63 : 1424 ≤ l0), (g ≤ G) ∧ Q 0 Θ) ∧ (∀ (c63 : l0 < 1424), (∀ (c70 : l0 = 894), (g ≤ G) ∧ Q 0 Θ) ∧ (∀ (c70 : ¬ l0 = 894), (∀ (c77 : l0 = 903), (g ≤ G) ∧ Q 0 Θ) ∧ (∀ (c77 : ¬ l0 = 903), (∀ (c84 : l0 < 1154), (g ≤ G) ∧ Q 1 Θ) ∧ (∀ (c84 : 1154 ≤ l0), (∀ (c91 : l0 ≤ 1161), (g ≤ G) ∧ Q 0 Θ) ∧ (∀ (c91 : 1161 < l0), (g ≤ G) ∧ Q 1 Θ))))))) : W2_X44_isLetter_52 ω d G l0 g Θ Q := sorry
theorem u_X44_isLetter {ω : AO} {d G : Nat} {l0 : Int} {Θ : Th} {Q : Int → Th → Prop} (hd : 0 ≤ d) (h0 : inI l0) (hQ : ∀ x, x = (if chWL l0 then 1 else 0) → Q x Θ) : w2_X44_isLetter ω d G l0 Θ Q := sorry
theorem lm_X44_7 : SLk RX44 7 yX44_isLetter cX44_isLetter 1 (some .boolean) 1 := sorry
theorem lm_X44_13 : SLk RX44 13 yX44_isDigit cX44_isDigit 1 (some .boolean) 1 := sorry
def w2_X44_isPart (ω : AO) (d G : Nat) (l0 : Int) (Θ : Th) (Q : Int → Th → Prop) : Prop := Hid (∀ S, bel S → R2 ω S Θ → Ctr ω yX44_isPart cX44_isPart 1 (some .boolean) d G [(0, l0)] S (eZ S (q2 ω Θ Q)))
set_option maxHeartbeats 4000000 in
theorem s2_X44_isPart {ω : AO} {d G : Nat} {l0 : Int} {Θ : Th} {Q : Int → Th → Prop} (hB : (1 ≤ d) ∧ (-2147483648 ≤ l0 ∧ l0 < 2147483648) ∧ ∀ (x1 : Int) (e1 : x1 = if chWL l0 then 1 else 0) (r1 : x1 = 0 ∨ x1 = 1), (∀ (c4 : ¬ x1 = 0), Q 1 Θ) ∧ (∀ (c4 : x1 = 0), ∀ (x8 : Int) (e8 : x8 = if chDg l0 then 1 else 0) (r8 : x8 = 0 ∨ x8 = 1), (∀ (c11 : x8 = 0), Q 0 Θ) ∧ (∀ (c11 : ¬ x8 = 0), Q 1 Θ))) : w2_X44_isPart ω d G l0 Θ Q := sorry
theorem u_X44_isPart {ω : AO} {d G : Nat} {l0 : Int} {Θ : Th} {Q : Int → Th → Prop} (hd : 1 ≤ d) (h0 : inI l0) (hQ : ∀ x, x = (if chWP l0 then 1 else 0) → Q x Θ) : w2_X44_isPart ω d G l0 Θ Q := sorry
def w2_X44_small (ω : AO) (d G : Nat) (l0 : Int) (Θ : Th) (Q : Int → Th → Prop) : Prop := Hid (∀ S, bel S → R2 ω S Θ → Ctr ω yX44_small cX44_small 1 (some .int) d G [(0, l0)] S (eI S (q2 ω Θ Q)))
def W2_X44_small_12 (ω : AO) (d G : Nat) (l0 : Int) (g : Nat) (Θ : Th) (Q : Int → Th → Prop) : Prop := Hid (SJ2 ω yX44_small cX44_small 1 (some .int) d G (fun S0 Θ0 => (eI S0 (q2 ω Θ0 Q))) 12 [(0, l0)] [] g Θ)
def W2_X44_small_33 (ω : AO) (d G : Nat) (l0 : Int) (g : Nat) (Θ : Th) (Q : Int → Th → Prop) : Prop := Hid (SJ2 ω yX44_small cX44_small 1 (some .int) d G (fun S0 Θ0 => (eI S0 (q2 ω Θ0 Q))) 33 [(0, l0)] [] g Θ)
def W2_X44_small_54 (ω : AO) (d G : Nat) (l0 : Int) (g : Nat) (Θ : Th) (Q : Int → Th → Prop) : Prop := Hid (SJ2 ω yX44_small cX44_small 1 (some .int) d G (fun S0 Θ0 => (eI S0 (q2 ω Θ0 Q))) 54 [(0, l0)] [] g Θ)
def W2_X44_small_73 (ω : AO) (d G : Nat) (l0 : Int) (g : Nat) (Θ : Th) (Q : Int → Th → Prop) : Prop := Hid (SJ2 ω yX44_small cX44_small 1 (some .int) d G (fun S0 Θ0 => (eI S0 (q2 ω Θ0 Q))) 73 [(0, l0)] [] g Θ)
def W2_X44_small_92 (ω : AO) (d G : Nat) (l0 : Int) (g : Nat) (Θ : Th) (Q : Int → Th → Prop) : Prop := Hid (SJ2 ω yX44_small cX44_small 1 (some .int) d G (fun S0 Θ0 => (eI S0 (q2 ω Θ0 Q))) 92 [(0, l0)] [] g Θ)
def W2_X44_small_106 (ω : AO) (d G : Nat) (l0 : Int) (g : Nat) (Θ : Th) (Q : Int → Th → Prop) : Prop := Hid (SJ2 ω yX44_small cX44_small 1 (some .int) d G (fun S0 Θ0 => (eI S0 (q2 ω Θ0 Q))) 106 [(0, l0)] [] g Θ)
def W2_X44_small_120 (ω : AO) (d G : Nat) (l0 : Int) (g : Nat) (Θ : Th) (Q : Int → Th → Prop) : Prop := Hid (SJ2 ω yX44_small cX44_small 1 (some .int) d G (fun S0 Θ0 => (eI S0 (q2 ω Θ0 Q))) 120 [(0, l0)] [] g Θ)
def W2_X44_small_134 (ω : AO) (d G : Nat) (l0 : Int) (g : Nat) (Θ : Th) (Q : Int → Th → Prop) : Prop := Hid (SJ2 ω yX44_small cX44_small 1 (some .int) d G (fun S0 Θ0 => (eI S0 (q2 ω Θ0 Q))) 134 [(0, l0)] [] g Θ)
def W2_X44_small_152 (ω : AO) (d G : Nat) (l0 : Int) (g : Nat) (Θ : Th) (Q : Int → Th → Prop) : Prop := Hid (SJ2 ω yX44_small cX44_small 1 (some .int) d G (fun S0 Θ0 => (eI S0 (q2 ω Θ0 Q))) 152 [(0, l0)] [] g Θ)
def W2_X44_small_166 (ω : AO) (d G : Nat) (l0 : Int) (g : Nat) (Θ : Th) (Q : Int → Th → Prop) : Prop := Hid (SJ2 ω yX44_small cX44_small 1 (some .int) d G (fun S0 Θ0 => (eI S0 (q2 ω Θ0 Q))) 166 [(0, l0)] [] g Θ)
def W2_X44_small_180 (ω : AO) (d G : Nat) (l0 : Int) (g : Nat) (Θ : Th) (Q : Int → Th → Prop) : Prop := Hid (SJ2 ω yX44_small cX44_small 1 (some .int) d G (fun S0 Θ0 => (eI S0 (q2 ω Θ0 Q))) 180 [(0, l0)] [] g Θ)
def W2_X44_small_186 (ω : AO) (d G : Nat) (l0 : Int) (g : Nat) (Θ : Th) (Q : Int → Th → Prop) : Prop := Hid (SJ2 ω yX44_small cX44_small 1 (some .int) d G (fun S0 Θ0 => (eI S0 (q2 ω Θ0 Q))) 186 [(0, l0)] [] g Θ)
set_option maxHeartbeats 4000000 in
theorem s2_X44_small {ω : AO} {d G : Nat} {l0 : Int} {Θ : Th} {Q : Int → Th → Prop} (hB : (-2147483648 ≤ l0 ∧ l0 < 2147483648) ∧ (∀ (c3 : l0 < 65), W2_X44_small_12 ω d G l0 (0) Θ Q) ∧ (∀ (c3 : 65 ≤ l0), (∀ (c9 : l0 ≤ 90), (-2147483648 ≤ (l0 + 32) ∧ (l0 + 32) < 2147483648) ∧ Q (l0 + 32) Θ) ∧ (∀ (c9 : 90 < l0), W2_X44_small_12 ω d G l0 (0) Θ Q))) : w2_X44_small ω d G l0 Θ Q := sorry
set_option maxHeartbeats 4000000 in
theorem s2_X44_small_12 {ω : AO} {d G : Nat} {l0 : Int} {g : Nat} {Θ : Th} {Q : Int → Th → Prop} (hB : (-2147483648 ≤ l0 ∧ l0 < 2147483648) ∧ (∀ (c16 : l0 < 192), W2_X44_small_33 ω d G l0 (g) Θ Q) ∧ (∀ (c16 : 192 ≤ l0), (∀ (c23 : 222 < l0), W2_X44_small_33 ω d G l0 (g) Θ Q) ∧ (∀ (c23 : l0 ≤ 222), (∀ (c30 : ¬ l0 = 215), (g ≤ G) ∧ (-2147483648 ≤ (l0 + 32) ∧ (l0 + 32) < 2147483648) ∧ Q (l0 + 32) Θ) ∧ (∀ (c30 : l0 = 215), W2_X44_small_33 ω d G l0 (g) Θ Q)))) : W2_X44_small_12 ω d G l0 g Θ Q := sorry
set_option maxHeartbeats 4000000 in
theorem s2_X44_small_33 {ω : AO} {d G : Nat} {l0 : Int} {g : Nat} {Θ : Th} {Q : Int → Th → Prop} (hB : (-2147483648 ≤ l0 ∧ l0 < 2147483648) ∧ (∀ (c37 : l0 < 913), W2_X44_small_54 ω d G l0 (g) Θ Q) ∧ (∀ (c37 : 913 ≤ l0), (∀ (c44 : 939 < l0), W2_X44_small_54 ω d G l0 (g) Θ Q) ∧ (∀ (c44 : l0 ≤ 939), (∀ (c51 : ¬ l0 = 930), (g ≤ G) ∧ (-2147483648 ≤ (l0 + 32) ∧ (l0 + 32) < 2147483648) ∧ Q (l0 + 32) Θ) ∧ (∀ (c51 : l0 = 930), W2_X44_small_54 ω d G l0 (g) Θ Q)))) : W2_X44_small_33 ω d G l0 g Θ Q := sorry
set_option maxHeartbeats 4000000 in
theorem s2_X44_small_54 {ω : AO} {d G : Nat} {l0 : Int} {g : Nat} {Θ : Th} {Q : Int → Th → Prop} (hB : (-2147483648 ≤ l0 ∧ l0 < 2147483648) ∧ (∀ (c58 : l0 < 1040), W2_X44_small_73 ω d G l0 (g) Θ Q) ∧ (∀ (c58 : 1040 ≤ l0), (∀ (c65 : 1071 < l0), W2_X44_small_73 ω d G l0 (g) Θ Q) ∧ (∀ (c65 : l0 ≤ 1071), (g ≤ G) ∧ (-2147483648 ≤ (l0 + 32) ∧ (l0 + 32) < 2147483648) ∧ Q (l0 + 32) Θ))) : W2_X44_small_54 ω d G l0 g Θ Q := sorry
set_option maxHeartbeats 4000000 in
theorem s2_X44_small_73 {ω : AO} {d G : Nat} {l0 : Int} {g : Nat} {Θ : Th} {Q : Int → Th → Prop} (hB : (-2147483648 ≤ l0 ∧ l0 < 2147483648) ∧ (∀ (c77 : l0 < 1024), W2_X44_small_92 ω d G l0 (g) Θ Q) ∧ (∀ (c77 : 1024 ≤ l0), (∀ (c84 : 1039 < l0), W2_X44_small_92 ω d G l0 (g) Θ Q) ∧ (∀ (c84 : l0 ≤ 1039), (g ≤ G) ∧ (-2147483648 ≤ (l0 + 80) ∧ (l0 + 80) < 2147483648) ∧ Q (l0 + 80) Θ))) : W2_X44_small_73 ω d G l0 g Θ Q := sorry
set_option maxHeartbeats 4000000 in
theorem s2_X44_small_92 {ω : AO} {d G : Nat} {l0 : Int} {g : Nat} {Θ : Th} {Q : Int → Th → Prop} (hB : (-2147483648 ≤ l0 ∧ l0 < 2147483648) ∧ (∀ (c96 : l0 < 256), W2_X44_small_106 ω d G l0 (g) Θ Q) ∧ (∀ (c96 : 256 ≤ l0), (∀ (c103 : l0 ≤ 311), (g ≤ G) ∧ Q (orI l0 1) Θ) ∧ (∀ (c103 : 311 < l0), W2_X44_small_106 ω d G l0 (g) Θ Q))) : W2_X44_small_92 ω d G l0 g Θ Q := sorry
set_option maxHeartbeats 4000000 in
theorem s2_X44_small_106 {ω : AO} {d G : Nat} {l0 : Int} {g : Nat} {Θ : Th} {Q : Int → Th → Prop} (hB : (-2147483648 ≤ l0 ∧ l0 < 2147483648) ∧ (∀ (c110 : l0 < 330), W2_X44_small_120 ω d G l0 (g) Θ Q) ∧ (∀ (c110 : 330 ≤ l0), (∀ (c117 : l0 ≤ 375), (g ≤ G) ∧ Q (orI l0 1) Θ) ∧ (∀ (c117 : 375 < l0), W2_X44_small_120 ω d G l0 (g) Θ Q))) : W2_X44_small_106 ω d G l0 g Θ Q := sorry
set_option maxHeartbeats 4000000 in
theorem s2_X44_small_120 {ω : AO} {d G : Nat} {l0 : Int} {g : Nat} {Θ : Th} {Q : Int → Th → Prop} (hB : (-2147483648 ≤ l0 ∧ l0 < 2147483648) ∧ (∀ (c124 : l0 < 1120), W2_X44_small_134 ω d G l0 (g) Θ Q) ∧ (∀ (c124 : 1120 ≤ l0), (∀ (c131 : l0 ≤ 1153), (g ≤ G) ∧ Q (orI l0 1) Θ) ∧ (∀ (c131 : 1153 < l0), W2_X44_small_134 ω d G l0 (g) Θ Q))) : W2_X44_small_120 ω d G l0 g Θ Q := sorry
set_option maxHeartbeats 4000000 in
theorem s2_X44_small_134 {ω : AO} {d G : Nat} {l0 : Int} {g : Nat} {Θ : Th} {Q : Int → Th → Prop} (hB : (-2147483648 ≤ l0 ∧ l0 < 2147483648) ∧ (∀ (c138 : l0 < 1162), W2_X44_small_152 ω d G l0 (g) Θ Q) ∧ (∀ (c138 : 1162 ≤ l0), (∀ (c145 : 1215 < l0), W2_X44_small_152 ω d G l0 (g) Θ Q) ∧ (∀ (c145 : l0 ≤ 1215), (g ≤ G) ∧ Q (orI l0 1) Θ))) : W2_X44_small_134 ω d G l0 g Θ Q := sorry
set_option maxHeartbeats 4000000 in
theorem s2_X44_small_152 {ω : AO} {d G : Nat} {l0 : Int} {g : Nat} {Θ : Th} {Q : Int → Th → Prop} (hB : (-2147483648 ≤ l0 ∧ l0 < 2147483648) ∧ (∀ (c156 : l0 < 313), W2_X44_small_166 ω d G l0 (g) Θ Q) ∧ (∀ (c156 : 313 ≤ l0), (∀ (c163 : l0 ≤ 328), W2_X44_small_180 ω d G l0 (g) Θ Q) ∧ (∀ (c163 : 328 < l0), W2_X44_small_166 ω d G l0 (g) Θ Q))) : W2_X44_small_152 ω d G l0 g Θ Q := sorry
set_option maxHeartbeats 4000000 in
theorem s2_X44_small_166 {ω : AO} {d G : Nat} {l0 : Int} {g : Nat} {Θ : Th} {Q : Int → Th → Prop} (hB : (-2147483648 ≤ l0 ∧ l0 < 2147483648) ∧ (∀ (c170 : l0 < 377), W2_X44_small_186 ω d G l0 (g) Θ Q) ∧ (∀ (c170 : 377 ≤ l0), (∀ (c177 : 382 < l0), W2_X44_small_186 ω d G l0 (g) Θ Q) ∧ (∀ (c177 : l0 ≤ 382), W2_X44_small_180 ω d G l0 (g) Θ Q))) : W2_X44_small_166 ω d G l0 g Θ Q := sorry
set_option maxHeartbeats 4000000 in
theorem s2_X44_small_180 {ω : AO} {d G : Nat} {l0 : Int} {g : Nat} {Θ : Th} {Q : Int → Th → Prop} (hB : (g ≤ G) ∧ (-2147483648 ≤ (l0 + (l0 % 2)) ∧ (l0 + (l0 % 2)) < 2147483648) ∧ Q (l0 + (l0 % 2)) Θ) : W2_X44_small_180 ω d G l0 g Θ Q := sorry
set_option maxHeartbeats 4000000 in
theorem s2_X44_small_186 {ω : AO} {d G : Nat} {l0 : Int} {g : Nat} {Θ : Th} {Q : Int → Th → Prop} (hB : (-2147483648 ≤ l0 ∧ l0 < 2147483648) ∧ (∀ (c187 : l0 ≠ 376 ∧ l0 ≠ 902 ∧ l0 ≠ 904 ∧ l0 ≠ 905 ∧ l0 ≠ 906 ∧ l0 ≠ 908 ∧ l0 ≠ 910 ∧ l0 ≠ 911), (g ≤ G) ∧ Q l0 Θ) ∧ (∀ (c187 : l0 = 376), (g ≤ G) ∧ Q 255 Θ) ∧ (∀ (c187 : l0 = 902), (g ≤ G) ∧ Q 940 Θ) ∧ (∀ (c187 : l0 = 904), (g ≤ G) ∧ (-2147483648 ≤ (l0 + 37) ∧ (l0 + 37) < 2147483648) ∧ Q (l0 + 37) Θ) ∧ (∀ (c187 : l0 = 905), (g ≤ G) ∧ (-2147483648 ≤ (l0 + 37) ∧ (l0 + 37) < 2147483648) ∧ Q (l0 + 37) Θ) ∧ (∀ (c187 : l0 = 906), (g ≤ G) ∧ (-2147483648 ≤ (l0 + 37) ∧ (l0 + 37) < 2147483648) ∧ Q (l0 + 37) Θ) ∧ (∀ (c187 : l0 = 908), (g ≤ G) ∧ Q 972 Θ) ∧ (∀ (c187 : l0 = 910), (g ≤ G) ∧ (-2147483648 ≤ (l0 + 63) ∧ (l0 + 63) < 2147483648) ∧ Q (l0 + 63) Θ) ∧ (∀ (c187 : l0 = 911), (g ≤ G) ∧ (-2147483648 ≤ (l0 + 63) ∧ (l0 + 63) < 2147483648) ∧ Q (l0 + 63) Θ)) : W2_X44_small_186 ω d G l0 g Θ Q := sorry
theorem smW1 {l0 : Int} (h : (65 ≤ l0 ∧ l0 ≤ 90) ∨ (192 ≤ l0 ∧ l0 ≤ 222 ∧ l0 ≠ 215) ∨ (913 ≤ l0 ∧ l0 ≤ 939 ∧ l0 ≠ 930) ∨ (1040 ≤ l0 ∧ l0 ≤ 1071)) : smW l0 = l0 + 32 := if_pos h
theorem smW2 {l0 : Int} (h : 1024 ≤ l0 ∧ l0 ≤ 1039) : smW l0 = l0 + 80 := sorry
theorem smW3 {l0 : Int} (h : (256 ≤ l0 ∧ l0 ≤ 311) ∨ (330 ≤ l0 ∧ l0 ≤ 375) ∨ (1120 ≤ l0 ∧ l0 ≤ 1153) ∨ (1162 ≤ l0 ∧ l0 ≤ 1215)) : smW l0 = (if l0 % 2 = 0 then l0 + 1 else l0) := sorry
theorem smW4 {l0 : Int} (h : (313 ≤ l0 ∧ l0 ≤ 328) ∨ (377 ≤ l0 ∧ l0 ≤ 382)) : smW l0 = (if l0 % 2 = 1 then l0 + 1 else l0) := sorry
theorem smW6 {l0 : Int} (h : ((((((((((¬ (65 ≤ l0 ∧ l0 ≤ 90)) ∧ ¬ (192 ≤ l0 ∧ l0 ≤ 222 ∧ l0 ≠ 215)) ∧ ¬ (913 ≤ l0 ∧ l0 ≤ 939 ∧ l0 ≠ 930)) ∧ ¬ (1040 ≤ l0 ∧ l0 ≤ 1071)) ∧ ¬ (1024 ≤ l0 ∧ l0 ≤ 1039)) ∧ ¬ (256 ≤ l0 ∧ l0 ≤ 311)) ∧ ¬ (330 ≤ l0 ∧ l0 ≤ 375)) ∧ ¬ (1120 ≤ l0 ∧ l0 ≤ 1153)) ∧ ¬ (1162 ≤ l0 ∧ l0 ≤ 1215)) ∧ ¬ (313 ≤ l0 ∧ l0 ≤ 328)) ∧ ¬ (377 ≤ l0 ∧ l0 ≤ 382)) (h2 : l0 ≠ 376 ∧ l0 ≠ 902 ∧ l0 ≠ 904 ∧ l0 ≠ 905 ∧ l0 ≠ 906 ∧ l0 ≠ 908 ∧ l0 ≠ 910 ∧ l0 ≠ 911) : smW l0 = l0 := sorry
theorem u_X44_small {ω : AO} {d G : Nat} {l0 : Int} {Θ : Th} {Q : Int → Th → Prop} (hd : 0 ≤ d) (h0 : inI l0) (hQ : ∀ x, x = (smW l0) → Q x Θ) : w2_X44_small ω d G l0 Θ Q := sorry
def w2_X4_isPlainVowel (ω : AO) (d G : Nat) (l0 : Int) (Θ : Th) (Q : Int → Th → Prop) : Prop := Hid (∀ S, bel S → R2 ω S Θ → Ctr ω yX4_isPlainVowel cX4_isPlainVowel 1 (some .boolean) d G [(0, l0)] S (eZ S (q2 ω Θ Q)))
set_option maxHeartbeats 4000000 in
theorem s2_X4_isPlainVowel {ω : AO} {d G : Nat} {l0 : Int} {Θ : Th} {Q : Int → Th → Prop} (hB : (-2147483648 ≤ l0 ∧ l0 < 2147483648) ∧ (∀ (c3 : l0 = 97), Q 1 Θ) ∧ (∀ (c3 : ¬ l0 = 97), (∀ (c9 : l0 = 101), Q 1 Θ) ∧ (∀ (c9 : ¬ l0 = 101), (∀ (c15 : l0 = 105), Q 1 Θ) ∧ (∀ (c15 : ¬ l0 = 105), (∀ (c21 : l0 = 111), Q 1 Θ) ∧ (∀ (c21 : ¬ l0 = 111), (∀ (c27 : ¬ l0 = 117), Q 0 Θ) ∧ (∀ (c27 : l0 = 117), Q 1 Θ)))))) : w2_X4_isPlainVowel ω d G l0 Θ Q := sorry
theorem u_X4_isPlainVowel {ω : AO} {d G : Nat} {l0 : Int} {Θ : Th} {Q : Int → Th → Prop} (hd : 0 ≤ d) (h0 : inI l0) (hQ : ∀ x, x = (if chVo l0 then 1 else 0) → Q x Θ) : w2_X4_isPlainVowel ω d G l0 Θ Q := sorry
def w2_X45_isJoint (ω : AO) (d G : Nat) (l0 : Int) (Θ : Th) (Q : Int → Th → Prop) : Prop := Hid (∀ S, bel S → R2 ω S Θ → Ctr ω yX45_isJoint cX45_isJoint 1 (some .boolean) d G [(0, l0)] S (eZ S (q2 ω Θ Q)))
set_option maxHeartbeats 4000000 in
theorem s2_X45_isJoint {ω : AO} {d G : Nat} {l0 : Int} {Θ : Th} {Q : Int → Th → Prop} (hB : (-2147483648 ≤ l0 ∧ l0 < 2147483648) ∧ (∀ (c3 : l0 = 39), Q 1 Θ) ∧ (∀ (c3 : ¬ l0 = 39), (∀ (c9 : l0 = 46), Q 1 Θ) ∧ (∀ (c9 : ¬ l0 = 46), (∀ (c15 : l0 = 95), Q 1 Θ) ∧ (∀ (c15 : ¬ l0 = 95), (∀ (c21 : l0 = 45), Q 1 Θ) ∧ (∀ (c21 : ¬ l0 = 45), (∀ (c27 : ¬ l0 = 64), Q 0 Θ) ∧ (∀ (c27 : l0 = 64), Q 1 Θ)))))) : w2_X45_isJoint ω d G l0 Θ Q := sorry
theorem u_X45_isJoint {ω : AO} {d G : Nat} {l0 : Int} {Θ : Th} {Q : Int → Th → Prop} (hd : 0 ≤ d) (h0 : inI l0) (hQ : ∀ x, x = (if chJo l0 then 1 else 0) → Q x Θ) : w2_X45_isJoint ω d G l0 Θ Q := sorry
def w2_X53_isPlain (ω : AO) (d G : Nat) (l0 : Int) (Θ : Th) (Q : Int → Th → Prop) : Prop := Hid (∀ S, bel S → R2 ω S Θ → Ctr ω yX53_isPlain cX53_isPlain 1 (some .boolean) d G [(0, l0)] S (eZ S (q2 ω Θ Q)))
set_option maxHeartbeats 4000000 in
theorem s2_X53_isPlain {ω : AO} {d G : Nat} {l0 : Int} {Θ : Th} {Q : Int → Th → Prop} (hB : (-2147483648 ≤ l0 ∧ l0 < 2147483648) ∧ (∀ (c3 : l0 ≤ 32), Q 0 Θ) ∧ (∀ (c3 : 32 < l0), (∀ (c9 : 127 ≤ l0), Q 0 Θ) ∧ (∀ (c9 : l0 < 127), (∀ (c15 : l0 = 40), Q 0 Θ) ∧ (∀ (c15 : ¬ l0 = 40), (∀ (c21 : l0 = 41), Q 0 Θ) ∧ (∀ (c21 : ¬ l0 = 41), (∀ (c27 : l0 = 34), Q 0 Θ) ∧ (∀ (c27 : ¬ l0 = 34), (∀ (c33 : l0 = 58), Q 0 Θ) ∧ (∀ (c33 : ¬ l0 = 58), Q 1 Θ))))))) : w2_X53_isPlain ω d G l0 Θ Q := sorry
theorem u_X53_isPlain {ω : AO} {d G : Nat} {l0 : Int} {Θ : Th} {Q : Int → Th → Prop} (hd : 0 ≤ d) (h0 : inI l0) (hQ : ∀ x, x = (if chQP l0 then 1 else 0) → Q x Θ) : w2_X53_isPlain ω d G l0 Θ Q := sorry
def w2_X1_hex (ω : AO) (d G : Nat) (l0 : Int) (Θ : Th) (Q : Int → Th → Prop) : Prop := Hid (∀ S, bel S → R2 ω S Θ → Ctr ω yX1_hex cX1_hex 1 (some .int) d G [(0, l0)] S (eI S (q2 ω Θ Q)))
def W2_X1_hex_19 (ω : AO) (d G : Nat) (l0 : Int) (g : Nat) (Θ : Th) (Q : Int → Th → Prop) : Prop := Hid (SJ2 ω yX1_hex cX1_hex 1 (some .int) d G (fun S0 Θ0 => (eI S0 (q2 ω Θ0 Q))) 19 [(0, l0)] [] g Θ)
def W2_X1_hex_41 (ω : AO) (d G : Nat) (l0 : Int) (g : Nat) (Θ : Th) (Q : Int → Th → Prop) : Prop := Hid (SJ2 ω yX1_hex cX1_hex 1 (some .int) d G (fun S0 Θ0 => (eI S0 (q2 ω Θ0 Q))) 41 [(0, l0)] [] g Θ)
set_option maxHeartbeats 4000000 in
theorem s2_X1_hex {ω : AO} {d G : Nat} {l0 : Int} {Θ : Th} {Q : Int → Th → Prop} (hB : (-2147483648 ≤ l0 ∧ l0 < 2147483648) ∧ (∀ (c3 : l0 < 48), W2_X1_hex_19 ω d G l0 (0) Θ Q) ∧ (∀ (c3 : 48 ≤ l0), (∀ (c9 : 57 < l0), W2_X1_hex_19 ω d G l0 (0) Θ Q) ∧ (∀ (c9 : l0 ≤ 57), (-2147483648 ≤ (l0 - 48) ∧ (l0 - 48) < 2147483648) ∧ Q (l0 - 48) Θ))) : w2_X1_hex ω d G l0 Θ Q := sorry
set_option maxHeartbeats 4000000 in
theorem s2_X1_hex_19 {ω : AO} {d G : Nat} {l0 : Int} {g : Nat} {Θ : Th} {Q : Int → Th → Prop} (hB : (-2147483648 ≤ l0 ∧ l0 < 2147483648) ∧ (∀ (c22 : l0 < 97), W2_X1_hex_41 ω d G l0 (g) Θ Q) ∧ (∀ (c22 : 97 ≤ l0), (∀ (c28 : 102 < l0), W2_X1_hex_41 ω d G l0 (g) Θ Q) ∧ (∀ (c28 : l0 ≤ 102), (g ≤ G) ∧ (-2147483648 ≤ ((l0 - 97) + 10) ∧ ((l0 - 97) + 10) < 2147483648) ∧ Q ((l0 - 97) + 10) Θ))) : W2_X1_hex_19 ω d G l0 g Θ Q := sorry
set_option maxHeartbeats 4000000 in
theorem s2_X1_hex_41 {ω : AO} {d G : Nat} {l0 : Int} {g : Nat} {Θ : Th} {Q : Int → Th → Prop} (hB : (-2147483648 ≤ l0 ∧ l0 < 2147483648) ∧ (∀ (c44 : l0 < 65), (g ≤ G) ∧ Q (-1) Θ) ∧ (∀ (c44 : 65 ≤ l0), (∀ (c50 : 70 < l0), (g ≤ G) ∧ Q (-1) Θ) ∧ (∀ (c50 : l0 ≤ 70), (g ≤ G) ∧ (-2147483648 ≤ ((l0 - 65) + 10) ∧ ((l0 - 65) + 10) < 2147483648) ∧ Q ((l0 - 65) + 10) Θ))) : W2_X1_hex_41 ω d G l0 g Θ Q := sorry
theorem u_X1_hex {ω : AO} {d G : Nat} {l0 : Int} {Θ : Th} {Q : Int → Th → Prop} (hd : 0 ≤ d) (h0 : inI l0) (hQ : ∀ x, x = (hxF l0) → Q x Θ) : w2_X1_hex ω d G l0 Θ Q := sorry
theorem lm_X43_98 : SLk RX43 98 yX44_isDigit cX44_isDigit 1 (some .boolean) 1 := sorry
def w2_X43_hex (ω : AO) (d G : Nat) (l0 : Int) (Θ : Th) (Q : Int → Th → Prop) : Prop := Hid (∀ S, bel S → R2 ω S Θ → Ctr ω yX43_hex cX43_hex 1 (some .int) d G [(0, l0)] S (eI S (q2 ω Θ Q)))
def W2_X43_hex_36 (ω : AO) (d G : Nat) (l0 : Int) (g : Nat) (Θ : Th) (Q : Int → Th → Prop) : Prop := Hid (SJ2 ω yX43_hex cX43_hex 1 (some .int) d G (fun S0 Θ0 => (eI S0 (q2 ω Θ0 Q))) 36 [(0, l0)] [] g Θ)
set_option maxHeartbeats 4000000 in
theorem s2_X43_hex {ω : AO} {d G : Nat} {l0 : Int} {Θ : Th} {Q : Int → Th → Prop} (hB : (1 ≤ d) ∧ (-2147483648 ≤ l0 ∧ l0 < 2147483648) ∧ ∀ (x1 : Int) (e1 : x1 = if chDg l0 then 1 else 0) (r1 : x1 = 0 ∨ x1 = 1), (∀ (c4 : x1 = 0), (∀ (c17 : l0 < 97), W2_X43_hex_36 ω d G l0 (0) Θ Q) ∧ (∀ (c17 : 97 ≤ l0), (∀ (c23 : 102 < l0), W2_X43_hex_36 ω d G l0 (0) Θ Q) ∧ (∀ (c23 : l0 ≤ 102), (-2147483648 ≤ ((l0 - 97) + 10) ∧ ((l0 - 97) + 10) < 2147483648) ∧ Q ((l0 - 97) + 10) Θ))) ∧ (∀ (c4 : ¬ x1 = 0), (-2147483648 ≤ (l0 - 48) ∧ (l0 - 48) < 2147483648) ∧ Q (l0 - 48) Θ)) : w2_X43_hex ω d G l0 Θ Q := sorry
set_option maxHeartbeats 4000000 in
theorem s2_X43_hex_36 {ω : AO} {d G : Nat} {l0 : Int} {g : Nat} {Θ : Th} {Q : Int → Th → Prop} (hB : (-2147483648 ≤ l0 ∧ l0 < 2147483648) ∧ (∀ (c39 : l0 < 65), (g ≤ G) ∧ Q (-1) Θ) ∧ (∀ (c39 : 65 ≤ l0), (∀ (c45 : 70 < l0), (g ≤ G) ∧ Q (-1) Θ) ∧ (∀ (c45 : l0 ≤ 70), (g ≤ G) ∧ (-2147483648 ≤ ((l0 - 65) + 10) ∧ ((l0 - 65) + 10) < 2147483648) ∧ Q ((l0 - 65) + 10) Θ))) : W2_X43_hex_36 ω d G l0 g Θ Q := sorry
theorem u_X43_hex {ω : AO} {d G : Nat} {l0 : Int} {Θ : Th} {Q : Int → Th → Prop} (hd : 1 ≤ d) (h0 : inI l0) (hQ : ∀ x, x = (hxF l0) → Q x Θ) : w2_X43_hex ω d G l0 Θ Q := sorry
def w2_X32_low (ω : AO) (d G : Nat) (l0 l1 : Int) (Θ : Th) (Q : Int → Th → Prop) : Prop := Hid (∀ S, bel S → R2 ω S Θ → Ctr ω yX32_low cX32_low 2 (some .int) d G [(0, l0), (0, l1)] S (eI S (q2 ω Θ Q)))
set_option maxHeartbeats 4000000 in
theorem s2_X32_low {ω : AO} {d G : Nat} {l0 l1 : Int} {Θ : Th} {Q : Int → Th → Prop} (hB : (-2147483648 ≤ l1 ∧ l1 < 2147483648) ∧ (∀ (c2 : l1 ≤ 1), (-2147483648 ≤ l0 ∧ l0 < 2147483648) ∧ (∀ (c15 : ¬ l0 = 224), (∀ (c28 : ¬ l0 = 240), Q 128 Θ) ∧ (∀ (c28 : l0 = 240), Q 144 Θ)) ∧ (∀ (c15 : l0 = 224), Q 160 Θ)) ∧ (∀ (c2 : 1 < l1), Q 128 Θ)) : w2_X32_low ω d G l0 l1 Θ Q := sorry
theorem u_X32_low {ω : AO} {d G : Nat} {l0 l1 : Int} {Θ : Th} {Q : Int → Th → Prop} (hd : 0 ≤ d) (h0 : inI l0) (h1 : inI l1) (hQ : ∀ x, x = (loF l0 l1) → Q x Θ) : w2_X32_low ω d G l0 l1 Θ Q := sorry
def w2_X32_high (ω : AO) (d G : Nat) (l0 l1 : Int) (Θ : Th) (Q : Int → Th → Prop) : Prop := Hid (∀ S, bel S → R2 ω S Θ → Ctr ω yX32_high cX32_high 2 (some .int) d G [(0, l0), (0, l1)] S (eI S (q2 ω Θ Q)))
set_option maxHeartbeats 4000000 in
theorem s2_X32_high {ω : AO} {d G : Nat} {l0 l1 : Int} {Θ : Th} {Q : Int → Th → Prop} (hB : (-2147483648 ≤ l1 ∧ l1 < 2147483648) ∧ (∀ (c2 : l1 ≤ 1), (-2147483648 ≤ l0 ∧ l0 < 2147483648) ∧ (∀ (c15 : ¬ l0 = 237), (∀ (c28 : ¬ l0 = 244), Q 191 Θ) ∧ (∀ (c28 : l0 = 244), Q 143 Θ)) ∧ (∀ (c15 : l0 = 237), Q 159 Θ)) ∧ (∀ (c2 : 1 < l1), Q 191 Θ)) : w2_X32_high ω d G l0 l1 Θ Q := sorry
theorem u_X32_high {ω : AO} {d G : Nat} {l0 l1 : Int} {Θ : Th} {Q : Int → Th → Prop} (hd : 0 ≤ d) (h0 : inI l0) (h1 : inI l1) (hQ : ∀ x, x = (hiF l0 l1) → Q x Θ) : w2_X32_high ω d G l0 l1 Θ Q := sorry
def w2_X39_isLeap (ω : AO) (d G : Nat) (l0 : Int) (Θ : Th) (Q : Int → Th → Prop) : Prop := Hid (∀ S, bel S → R2 ω S Θ → Ctr ω yX39_isLeap cX39_isLeap 1 (some .boolean) d G [(0, l0)] S (eZ S (q2 ω Θ Q)))
set_option maxHeartbeats 4000000 in
theorem s2_X39_isLeap {ω : AO} {d G : Nat} {l0 : Int} {Θ : Th} {Q : Int → Th → Prop} (hB : (-2147483648 ≤ l0 ∧ l0 < 2147483648) ∧ (∀ (c3 : ¬ (Int.tmod l0 4) = 0), Q 0 Θ) ∧ (∀ (c3 : (Int.tmod l0 4) = 0), (∀ (c10 : ¬ (Int.tmod l0 100) = 0), Q 1 Θ) ∧ (∀ (c10 : (Int.tmod l0 100) = 0), (∀ (c18 : ¬ (Int.tmod l0 400) = 0), Q 0 Θ) ∧ (∀ (c18 : (Int.tmod l0 400) = 0), Q 1 Θ)))) : w2_X39_isLeap ω d G l0 Θ Q := sorry
theorem u_X39_isLeap {ω : AO} {d G : Nat} {l0 : Int} {Θ : Th} {Q : Int → Th → Prop} (hd : 0 ≤ d) (h0 : inI l0) (hQ : ∀ x, x = (if leapP l0 then 1 else 0) → Q x Θ) : w2_X39_isLeap ω d G l0 Θ Q := sorry
def w2_X56_isLeap (ω : AO) (d G : Nat) (l0 : Int) (Θ : Th) (Q : Int → Th → Prop) : Prop := Hid (∀ S, bel S → R2 ω S Θ → Ctr ω yX56_isLeap cX56_isLeap 1 (some .boolean) d G [(0, l0)] S (eZ S (q2 ω Θ Q)))
set_option maxHeartbeats 4000000 in
theorem s2_X56_isLeap {ω : AO} {d G : Nat} {l0 : Int} {Θ : Th} {Q : Int → Th → Prop} (hB : (-2147483648 ≤ l0 ∧ l0 < 2147483648) ∧ (∀ (c3 : ¬ (Int.tmod l0 4) = 0), Q 0 Θ) ∧ (∀ (c3 : (Int.tmod l0 4) = 0), (∀ (c10 : ¬ (Int.tmod l0 100) = 0), Q 1 Θ) ∧ (∀ (c10 : (Int.tmod l0 100) = 0), (∀ (c18 : ¬ (Int.tmod l0 400) = 0), Q 0 Θ) ∧ (∀ (c18 : (Int.tmod l0 400) = 0), Q 1 Θ)))) : w2_X56_isLeap ω d G l0 Θ Q := sorry
theorem u_X56_isLeap {ω : AO} {d G : Nat} {l0 : Int} {Θ : Th} {Q : Int → Th → Prop} (hd : 0 ≤ d) (h0 : inI l0) (hQ : ∀ x, x = (if leapP l0 then 1 else 0) → Q x Θ) : w2_X56_isLeap ω d G l0 Θ Q := sorry
theorem lm_X39_114 : SLk RX39 114 yX39_isLeap cX39_isLeap 1 (some .boolean) 1 := sorry
def w2_X39_length (ω : AO) (d G : Nat) (l0 l1 : Int) (Θ : Th) (Q : Int → Th → Prop) : Prop := Hid (∀ S, bel S → R2 ω S Θ → Ctr ω yX39_length cX39_length 2 (some .int) d G [(0, l0), (0, l1)] S (eI S (q2 ω Θ Q)))
set_option maxHeartbeats 4000000 in
theorem s2_X39_length {ω : AO} {d G : Nat} {l0 l1 : Int} {Θ : Th} {Q : Int → Th → Prop} (hB : (-2147483648 ≤ l1 ∧ l1 < 2147483648) ∧ (∀ (c2 : ¬ l1 = 2), (∀ (c24 : l1 = 4), Q 30 Θ) ∧ (∀ (c24 : ¬ l1 = 4), (∀ (c30 : l1 = 6), Q 30 Θ) ∧ (∀ (c30 : ¬ l1 = 6), (∀ (c36 : l1 = 9), Q 30 Θ) ∧ (∀ (c36 : ¬ l1 = 9), (∀ (c42 : ¬ l1 = 11), Q 31 Θ) ∧ (∀ (c42 : l1 = 11), Q 30 Θ))))) ∧ (∀ (c2 : l1 = 2), (1 ≤ d) ∧ (-2147483648 ≤ l0 ∧ l0 < 2147483648) ∧ ∀ (x6 : Int) (e6 : x6 = if leapP l0 then 1 else 0) (r6 : x6 = 0 ∨ x6 = 1), (∀ (c9 : x6 = 0), Q 28 Θ) ∧ (∀ (c9 : ¬ x6 = 0), Q 29 Θ))) : w2_X39_length ω d G l0 l1 Θ Q := sorry
theorem u_X39_length {ω : AO} {d G : Nat} {l0 l1 : Int} {Θ : Th} {Q : Int → Th → Prop} (hd : 1 ≤ d) (h0 : inI l0) (h1 : inI l1) (hQ : ∀ x, x = (mdF l0 l1) → Q x Θ) : w2_X39_length ω d G l0 l1 Θ Q := sorry
theorem lm_X56_92 : SLk RX56 92 yX56_isLeap cX56_isLeap 1 (some .boolean) 1 := sorry
def w2_X56_length (ω : AO) (d G : Nat) (l0 l1 : Int) (Θ : Th) (Q : Int → Th → Prop) : Prop := Hid (∀ S, bel S → R2 ω S Θ → Ctr ω yX56_length cX56_length 2 (some .int) d G [(0, l0), (0, l1)] S (eI S (q2 ω Θ Q)))
set_option maxHeartbeats 4000000 in
theorem s2_X56_length {ω : AO} {d G : Nat} {l0 l1 : Int} {Θ : Th} {Q : Int → Th → Prop} (hB : (-2147483648 ≤ l1 ∧ l1 < 2147483648) ∧ (∀ (c2 : ¬ l1 = 2), (∀ (c24 : l1 = 4), Q 30 Θ) ∧ (∀ (c24 : ¬ l1 = 4), (∀ (c30 : l1 = 6), Q 30 Θ) ∧ (∀ (c30 : ¬ l1 = 6), (∀ (c36 : l1 = 9), Q 30 Θ) ∧ (∀ (c36 : ¬ l1 = 9), (∀ (c42 : ¬ l1 = 11), Q 31 Θ) ∧ (∀ (c42 : l1 = 11), Q 30 Θ))))) ∧ (∀ (c2 : l1 = 2), (1 ≤ d) ∧ (-2147483648 ≤ l0 ∧ l0 < 2147483648) ∧ ∀ (x6 : Int) (e6 : x6 = if leapP l0 then 1 else 0) (r6 : x6 = 0 ∨ x6 = 1), (∀ (c9 : x6 = 0), Q 28 Θ) ∧ (∀ (c9 : ¬ x6 = 0), Q 29 Θ))) : w2_X56_length ω d G l0 l1 Θ Q := sorry
theorem u_X56_length {ω : AO} {d G : Nat} {l0 l1 : Int} {Θ : Th} {Q : Int → Th → Prop} (hd : 1 ≤ d) (h0 : inI l0) (h1 : inI l1) (hQ : ∀ x, x = (mdF l0 l1) → Q x Θ) : w2_X56_length ω d G l0 l1 Θ Q := sorry
/-! 58.xb.lean.txt -/
/-! rows that grow: reads -/
set_option maxRecDepth 100000
/-- the k-th of a row, -1 outside -/
def atI (l : List Int) (k : Int) : Int := if 0 ≤ k ∧ k < len l then gt l k else -1
theorem atI_in {l : List Int} {k : Int} (h : 0 ≤ k ∧ k < len l) : atI l k = gt l k := if_pos h
theorem atI_out {l : List Int} {k : Int} (h : k < 0 ∨ len l ≤ k) : atI l k = -1 := sorry
/-- a row without the spaces at its end -/
def dropS (l : List Int) : List Int := (l.reverse.dropWhile (fun c => decide (c = 32))).reverse
theorem dropS_snoc {l : List Int} {x : Int} : dropS (l ++ [x]) = if x = 32 then dropS l else l ++ [x] := sorry
theorem list_snoc {l : List Int} (h : 0 < len l) : l = l.take (len l - 1).toNat ++ [gt l (len l - 1)] := sorry
theorem lm_X6_3 : ILk RX6 3 yX6_init_2 cX6_init_2 2 1 := sorry
def w2_X5_at (ω : AO) (d G : Nat) (l0 l1 : Int) (Θ : Th) (Q : Int → Th → Prop) : Prop := Hid (∀ S, bel S → R2 ω S Θ → Ctr ω yX5_at cX5_at 2 (some .int) d G [(2, l0), (0, l1)] S (eI S (q2 ω Θ Q)))
set_option maxHeartbeats 4000000 in
theorem s2_X5_at {ω : AO} {d G : Nat} {l0 l1 : Int} {Θ : Th} {Q : Int → Th → Prop} (hB : (-2147483648 ≤ l1 ∧ l1 < 2147483648) ∧ (∀ (c1 : l1 < 0), Q (-1) Θ) ∧ (∀ (c1 : 0 ≤ l1), (kd Θ l0 = 19) ∧ ∀ (v6 : Int) (e6 : v6 = len (vv Θ l0)) (r6 : -2147483648 ≤ v6 ∧ v6 < 2147483648), (∀ (c9 : v6 ≤ l1), Q (-1) Θ) ∧ (∀ (c9 : l1 < v6), (0 ≤ l1 ∧ l1 < len (vv Θ l0)) ∧ ∀ (v17 : Int) (e17 : v17 = gt (vv Θ l0) l1) (r17 : -2147483648 ≤ v17 ∧ v17 < 2147483648), Q v17 Θ))) : w2_X5_at ω d G l0 l1 Θ Q := sorry
def w2_X5_clear (ω : AO) (d G : Nat) (l0 : Int) (Θ : Th) (Q : Th → Prop) : Prop := Hid (∀ S, bel S → R2 ω S Θ → Ctr ω yX5_clear cX5_clear 1 none d G [(2, l0)] S (eU S (q2U ω Θ Q)))
set_option maxHeartbeats 4000000 in
theorem s2_X5_clear {ω : AO} {d G : Nat} {l0 : Int} {Θ : Th} {Q : Th → Prop} (hB : (kd Θ l0 = 19) ∧ (¬ fz Θ l0) ∧ (0 ≤ (0 : Int) ∧ 0 ≤ len (vv Θ l0)) ∧ ∀ (Θ2 : Th) (t2 : Θ2 = pm Θ l0 0), Q Θ2) : w2_X5_clear ω d G l0 Θ Q := sorry
def w2_X6_at (ω : AO) (d G : Nat) (l0 l1 : Int) (Θ : Th) (Q : Int → Th → Prop) : Prop := Hid (∀ S, bel S → R2 ω S Θ → Ctr ω yX6_at cX6_at 2 (some .int) d G [(2, l0), (0, l1)] S (eI S (q2 ω Θ Q)))
set_option maxHeartbeats 4000000 in
theorem s2_X6_at {ω : AO} {d G : Nat} {l0 l1 : Int} {Θ : Th} {Q : Int → Th → Prop} (hB : (-2147483648 ≤ l1 ∧ l1 < 2147483648) ∧ (∀ (c1 : l1 < 0), Q (-1) Θ) ∧ (∀ (c1 : 0 ≤ l1), (kd Θ l0 = 20) ∧ ∀ (v6 : Int) (e6 : v6 = len (vv Θ l0)) (r6 : -2147483648 ≤ v6 ∧ v6 < 2147483648), (∀ (c9 : v6 ≤ l1), Q (-1) Θ) ∧ (∀ (c9 : l1 < v6), (0 ≤ l1 ∧ l1 < len (vv Θ l0)) ∧ ∀ (v17 : Int) (e17 : v17 = gt (vv Θ l0) l1) (r17 : 0 ≤ v17 ∧ v17 < 65536), Q v17 Θ))) : w2_X6_at ω d G l0 l1 Θ Q := sorry
def w2_X6_last (ω : AO) (d G : Nat) (l0 : Int) (Θ : Th) (Q : Int → Th → Prop) : Prop := Hid (∀ S, bel S → R2 ω S Θ → Ctr ω yX6_last cX6_last 1 (some .int) d G [(2, l0)] S (eI S (q2 ω Θ Q)))
set_option maxHeartbeats 4000000 in
theorem s2_X6_last {ω : AO} {d G : Nat} {l0 : Int} {Θ : Th} {Q : Int → Th → Prop} (hB : (kd Θ l0 = 20) ∧ ∀ (v1 : Int) (e1 : v1 = len (vv Θ l0)) (r1 : -2147483648 ≤ v1 ∧ v1 < 2147483648), (∀ (c4 : ¬ v1 = 0), ∀ (v16 : Int) (e16 : v16 = len (vv Θ l0)) (r16 : -2147483648 ≤ v16 ∧ v16 < 2147483648), (0 ≤ (v16 - 1) ∧ (v16 - 1) < len (vv Θ l0)) ∧ ∀ (v21 : Int) (e21 : v21 = gt (vv Θ l0) (v16 - 1)) (r21 : 0 ≤ v21 ∧ v21 < 65536), Q v21 Θ) ∧ (∀ (c4 : v1 = 0), Q (-1) Θ)) : w2_X6_last ω d G l0 Θ Q := sorry
def w2_X6_dropSpaces (ω : AO) (d G : Nat) (l0 : Int) (Θ : Th) (Q : Th → Prop) : Prop := Hid (∀ S, bel S → R2 ω S Θ → Ctr ω yX6_dropSpaces cX6_dropSpaces 1 none d G [(2, l0)] S (eU S (q2U ω Θ Q)))
def W2_X6_dropSpaces_0 (ω : AO) (d G : Nat) (l0 : Int) (g : Nat) (Θ : Th) (Q : Th → Prop) : Prop := Hid (SJ2 ω yX6_dropSpaces cX6_dropSpaces 1 none d G (fun S0 Θ0 => (eU S0 (q2U ω Θ0 Q))) 0 [(2, l0)] [] g Θ)
set_option maxHeartbeats 4000000 in
theorem s2_X6_dropSpaces {ω : AO} {d G : Nat} {l0 : Int} {Θ : Th} {Q : Th → Prop} (hB : W2_X6_dropSpaces_0 ω d G l0 0 Θ Q) : w2_X6_dropSpaces ω d G l0 Θ Q := sorry
set_option maxHeartbeats 4000000 in
theorem s2_X6_dropSpaces_0 {ω : AO} {d G : Nat} {l0 : Int} {g : Nat} {Θ : Th} {Q : Th → Prop} (hB : (kd Θ l0 = 20) ∧ ∀ (v1 : Int) (e1 : v1 = len (vv Θ l0)) (r1 : -2147483648 ≤ v1 ∧ v1 < 2147483648), (∀ (c4 : v1 ≤ 0), (g ≤ G) ∧ Q Θ) ∧ (∀ (c4 : 0 < v1), ∀ (v12 : Int) (e12 : v12 = len (vv Θ l0)) (r12 : -2147483648 ≤ v12 ∧ v12 < 2147483648), (0 ≤ (v12 - 1) ∧ (v12 - 1) < len (vv Θ l0)) ∧ ∀ (v17 : Int) (e17 : v17 = gt (vv Θ l0) (v12 - 1)) (r17 : 0 ≤ v17 ∧ v17 < 65536), (∀ (c20 : ¬ v17 = 32), (g ≤ G) ∧ Q Θ) ∧ (∀ (c20 : v17 = 32), ∀ (v25 : Int) (e25 : v25 = len (vv Θ l0)) (r25 : -2147483648 ≤ v25 ∧ v25 < 2147483648), (¬ fz Θ l0) ∧ (-2147483648 ≤ (v25 - 1) ∧ (v25 - 1) < 2147483648) ∧ (0 ≤ (v25 - 1) ∧ (v25 - 1) ≤ len (vv Θ l0)) ∧ ∀ (Θ30 : Th) (t30 : Θ30 = pm Θ l0 (v25 - 1)), W2_X6_dropSpaces_0 ω d G l0 (g) Θ30 Q))) : W2_X6_dropSpaces_0 ω d G l0 g Θ Q := sorry
def w2_X6_init (ω : AO) (d G : Nat) (l0 : Int) (Θ : Th) (Q : Th → Prop) : Prop := Hid (∀ S, bel S → R2 ω S Θ → Ctr ω yX6_init cX6_init 1 none d G [(2, l0)] S (eU S (q2U ω Θ Q)))
set_option maxHeartbeats 4000000 in
theorem s2_X6_init {ω : AO} {d G : Nat} {l0 : Int} {Θ : Th} {Q : Th → Prop} (hB : (1 ≤ d) ∧ (0 ≤ l0) ∧ (kd Θ l0 = 220) ∧ (2 ≤ d) ∧ (0 + ((max 2 (min 2000 (8 : Int))).toNat / 5 + 2) ≤ G) ∧ ∀ (Θ3 : Th) (t3 : Θ3 = uq Θ l0 (20, [], max 2 (min 2000 (8 : Int)), 0)), Q Θ3) : w2_X6_init ω d G l0 Θ Q := sorry
section XB
variable {ω : AO} {d G g : Nat} {Θ : Th} {a k : Int} {Q : Int → Th → Prop} {QV : Th → Prop}
theorem u_X5_at (h : kd Θ a = 19) (hi : inI k) (hQ : ∀ x, x = atI (vv Θ a) k → Q x Θ) : w2_X5_at ω d G a k Θ Q := sorry
theorem u_X6_at (h : kd Θ a = 20) (hi : inI k) (hQ : ∀ x, x = atI (vv Θ a) k → Q x Θ) : w2_X6_at ω d G a k Θ Q := sorry
theorem u_X6_last (h : kd Θ a = 20) (hQ : ∀ x, x = atI (vv Θ a) (len (vv Θ a) - 1) → Q x Θ) : w2_X6_last ω d G a Θ Q := sorry
theorem u_X5_clear (h : kd Θ a = 19) (hf : ¬ fz Θ a) (hQ : ∀ Θ', Θ' = uq Θ a (19, [], cp Θ a, cx Θ a) → QV Θ') : w2_X5_clear ω d G a Θ QV := sorry
theorem u_X6_init (hd : 2 ≤ d) (h0 : 0 ≤ a) (h : kd Θ a = 220) (hG : 3 ≤ G) (hQ : ∀ Θ', Θ' = uq Θ a (20, [], 8, 0) → QV Θ') : w2_X6_init ω d G a Θ QV := sorry
theorem uq_uq {c c' : Cl} : uq (uq Θ a c) a c' = uq Θ a c' := sorry
theorem u_X6_dropSpaces (h : kd Θ a = 20) (hf : ¬ fz Θ a) (hQ : ∀ Θ', Θ' = uq Θ a (20, dropS (vv Θ a), cp Θ a, cx Θ a) → QV Θ') : w2_X6_dropSpaces ω d G a Θ QV := sorry
end XB

/-! 59.sp.lean.txt -/
/-! plain laws: scanning a row; what growing costs -/
set_option maxRecDepth 100000
section SCN
variable {p : Int → Bool} {l m : List Int} {k j e x i n : Int}
theorem drop_gt (h : 0 ≤ k ∧ k < len l) : l.drop k.toNat = gt l k :: l.drop (k + 1).toNat := sorry
theorem drop_out (h : len l ≤ k) : l.drop k.toNat = [] := sorry
/-- the first place from one on where p fails, or the end -/
def scn (p : Int → Bool) (l : List Int) (k : Int) : Int := k + (((l.drop k.toNat).takeWhile p).length : Int)
theorem scn_step (h : 0 ≤ k ∧ k < len l) (hp : p (gt l k) = true) : scn p l k = scn p l (k + 1) := sorry
theorem scn_stop (h : 0 ≤ k ∧ k < len l) (hp : p (gt l k) = false) : scn p l k = k := sorry
theorem scn_end (h : len l ≤ k) : scn p l k = k := sorry
theorem scn_ge : k ≤ scn p l k := sorry
theorem scn_ind (M : Int → Prop) (h0 : ∀ k, 0 ≤ k → k < len l → p (gt l k) = true → M (k + 1) → M k) (h1 : ∀ k, 0 ≤ k → k < len l → p (gt l k) = false → M k) (h2 : ∀ k, len l ≤ k → M k) : ∀ k, 0 ≤ k → M k := sorry
theorem scn_le : ∀ k, 0 ≤ k → k ≤ len l → scn p l k ≤ len l := sorry
theorem scn_all : ∀ k, 0 ≤ k → ∀ j, k ≤ j → j < scn p l k → p (gt l j) = true := sorry
theorem scn_at : ∀ k, 0 ≤ k → scn p l k < len l → p (gt l (scn p l k)) = false := sorry
theorem scn_uniq (k0 : 0 ≤ k) (h1 : k ≤ e) (h2 : e ≤ len l) (h3 : ∀ j, k ≤ j → j < e → p (gt l j) = true) (h4 : e = len l ∨ p (gt l e) = false) : scn p l k = e := sorry
/-- back from a place: where what does not hold ends, not below lo -/
def bscn (p : Int → Bool) (l : List Int) (lo hi : Int) : Int := lo + ((((l.take hi.toNat).drop lo.toNat).reverse.dropWhile p).length : Int)
theorem bscn_lo {lo hi : Int} (h0 : 0 ≤ lo) (h : hi ≤ lo) : bscn p l lo hi = lo := sorry
theorem take_drop_snoc {lo hi : Int} (h0 : 0 ≤ lo) (h : lo < hi) (h1 : hi ≤ len l) : (l.take hi.toNat).drop lo.toNat = (l.take (hi - 1).toNat).drop lo.toNat ++ [gt l (hi - 1)] := sorry
theorem bscn_step {lo hi : Int} (h0 : 0 ≤ lo) (h : lo < hi) (h1 : hi ≤ len l) (hp : p (gt l (hi - 1)) = true) : bscn p l lo hi = bscn p l lo (hi - 1) := sorry
theorem bscn_stop {lo hi : Int} (h0 : 0 ≤ lo) (h : lo < hi) (h1 : hi ≤ len l) (hp : p (gt l (hi - 1)) = false) : bscn p l lo hi = hi := sorry
end SCN
/-- a builder that was made with room for 16, its gas -/
def BI (l : List Int) (c e : Int) (g0 g : Nat) : Prop := 16 ≤ c ∧ (c = 16 ∨ c ≤ 2 * len l) ∧ len l ≤ c ∧ (e = 0 ∨ e = 1) ∧ (g : Int) = g0 + (bK c e - 16)
theorem BI.new {g : Nat} : BI [] 16 0 g g := sorry
theorem BI.le {l : List Int} {c e : Int} {g0 g : Nat} (h : BI l c e g0 g) : (g : Int) ≤ g0 + 4 * len l + 16 ∧ g0 ≤ g := sorry
theorem BI.cap {l : List Int} {c e : Int} {g0 g : Nat} {n : Int} (h : BI l c e g0 g) (hn : 0 ≤ n) : bC c (len l + n) ≤ 2 * len l + 2 * n + 18 := sorry
theorem bK_le {c c' e e' : Int} (h : 0 ≤ c ∧ c ≤ c') (h1 : e = 0 ∨ e = 1) (h2 : e' = 0 ∨ e' = 1) (h3 : e ≤ e') : bK c e ≤ bK c' e' := sorry
theorem BI.app {l : List Int} {c e x : Int} {g0 g : Nat} (h : BI l c e g0 g) : BI (l ++ [x]) (bC c (len l + 1)) (if x ≤ 255 then e else 1) g0 (g + (bK (bC c (len l + 1)) (if x ≤ 255 then e else 1) - bK c e).toNat) := sorry
/-- a row that was made with room for c0, its gas -/
def RI (c0 : Int) (l : List Int) (c : Int) (g0 g : Nat) : Prop := 2 ≤ c0 ∧ c0 ≤ c ∧ (c = c0 ∨ c ≤ 2 * len l) ∧ len l ≤ c ∧ g0 ≤ g ∧ (g : Int) ≤ g0 + (c - c0)
theorem RI.new {c0 : Int} {g : Nat} (h : 2 ≤ c0) : RI c0 [] c0 g g := sorry
theorem RI.le {c0 c : Int} {l : List Int} {g0 g : Nat} (h : RI c0 l c g0 g) : (g : Int) ≤ g0 + 2 * len l ∧ g0 ≤ g := sorry
theorem RI.cap {c0 c : Int} {l : List Int} {g0 g : Nat} (h : RI c0 l c g0 g) : rwC c (len l) ≤ c0 + 2 * len l := sorry
theorem RI.add {c0 c x : Int} {l : List Int} {g0 g : Nat} (h : RI c0 l c g0 g) : RI c0 (l ++ [x]) (rwC c (len l)) g0 (g + (rwK c (len l)).toNat) := sorry
/-- a list that was made empty, its gas -/
def LI (l : List Int) (c : Int) (g0 g : Nat) : Prop := (c = 0 ∨ 10 ≤ c) ∧ (c = 0 ∨ c = 10 ∨ 2 * c ≤ 3 * len l) ∧ len l ≤ c ∧ (g : Int) = g0 + c
theorem LI.new {g : Nat} : LI [] 0 g g := sorry
theorem LI.le {l : List Int} {c : Int} {g0 g : Nat} (h : LI l c g0 g) : (g : Int) ≤ g0 + 2 * len l + 10 ∧ g0 ≤ g := sorry
theorem LI.cap {l : List Int} {c : Int} {g0 g : Nat} (h : LI l c g0 g) : adC c (len l) ≤ 2 * len l + 12 := sorry
theorem LI.add {l : List Int} {c x : Int} {g0 g : Nat} (h : LI l c g0 g) : LI (l ++ [x]) (adC c (len l)) g0 (g + (adC c (len l) - c).toNat) := sorry
theorem idx_spec {l : List Int} {x i : Int} : (idx l x i = -1 ∧ ∀ k, max i 0 ≤ k → k < len l → gt l k ≠ x) ∨ (max i 0 ≤ idx l x i ∧ idx l x i < len l ∧ gt l (idx l x i) = x ∧ ∀ k, max i 0 ≤ k → k < idx l x i → gt l k ≠ x) := sorry
theorem idx_in {l : List Int} {x i : Int} (_ : 0 ≤ i) (h : 0 ≤ len l) : -1 ≤ idx l x i ∧ idx l x i < len l := sorry
/-! 59.xc.lean.txt -/
/-! Bytes: segments -/
set_option maxRecDepth 100000
def w2_X12_hasPiece (ω : AO) (d G : Nat) (l0 l1 l2 l3 l4 : Int) (Θ : Th) (Q : Int → Th → Prop) : Prop := Hid (∀ S, bel S → R2 ω S Θ → Ctr ω yX12_hasPiece cX12_hasPiece 7 (some .boolean) d G [(2, l0), (0, l1), (2, l2), (0, l3), (0, l4)] S (eZ S (q2 ω Θ Q)))
def w2_X12_begins (ω : AO) (d G : Nat) (l0 l1 l2 : Int) (Θ : Th) (Q : Int → Th → Prop) : Prop := Hid (∀ S, bel S → R2 ω S Θ → Ctr ω yX12_begins cX12_begins 3 (some .boolean) d G [(2, l0), (2, l1), (0, l2)] S (eZ S (q2 ω Θ Q)))
def w2_X12_order (ω : AO) (d G : Nat) (l0 l1 : Int) (Θ : Th) (Q : Int → Th → Prop) : Prop := Hid (∀ S, bel S → R2 ω S Θ → Ctr ω yX12_order cX12_order 3 (some .int) d G [(2, l0), (2, l1)] S (eI S (q2 ω Θ Q)))
def w2_X12_small (ω : AO) (d G : Nat) (l0 : Int) (Θ : Th) (Q : Int → Th → Prop) : Prop := Hid (∀ S, bel S → R2 ω S Θ → Ctr ω yX12_small cX12_small 3 (some (.object "java/lang/String")) d G [(2, l0)] S (eA S (q2 ω Θ Q)))
def w2_X12_trim (ω : AO) (d G : Nat) (l0 : Int) (Θ : Th) (Q : Int → Th → Prop) : Prop := Hid (∀ S, bel S → R2 ω S Θ → Ctr ω yX12_trim cX12_trim 3 (some (.object "java/lang/String")) d G [(2, l0)] S (eA S (q2 ω Θ Q)))
def w2_X12_areDigits (ω : AO) (d G : Nat) (l0 : Int) (Θ : Th) (Q : Int → Th → Prop) : Prop := Hid (∀ S, bel S → R2 ω S Θ → Ctr ω yX12_areDigits cX12_areDigits 3 (some .boolean) d G [(2, l0)] S (eZ S (q2 ω Θ Q)))
def w2_X12_number (ω : AO) (d G : Nat) (l0 : Int) (Θ : Th) (Q : Int → Th → Prop) : Prop := Hid (∀ S, bel S → R2 ω S Θ → Ctr ω yX12_number cX12_number 3 (some .int) d G [(2, l0)] S (eI S (q2 ω Θ Q)))
def w2_X12_fitsFrom (ω : AO) (d G : Nat) (l0 l1 l2 : Int) (Θ : Th) (Q : Int → Th → Prop) : Prop := Hid (∀ S, bel S → R2 ω S Θ → Ctr ω yX12_fitsFrom cX12_fitsFrom 6 (some .boolean) d G [(2, l0), (2, l1), (0, l2)] S (eZ S (q2 ω Θ Q)))
def w2_X12_fits (ω : AO) (d G : Nat) (l0 l1 : Int) (Θ : Th) (Q : Int → Th → Prop) : Prop := Hid (∀ S, bel S → R2 ω S Θ → Ctr ω yX12_fits cX12_fits 2 (some .boolean) d G [(2, l0), (2, l1)] S (eZ S (q2 ω Θ Q)))
def w2_X12_ints (ω : AO) (d G : Nat) (l0 : Int) (Θ : Th) (Q : Int → Th → Prop) : Prop := Hid (∀ S, bel S → R2 ω S Θ → Ctr ω yX12_ints cX12_ints 3 (some (.object "MailWorks$Ints")) d G [(2, l0)] S (eA S (q2 ω Θ Q)))
def w2_X1_letter (ω : AO) (d G : Nat) (l0 : Int) (Θ : Th) (Q : Int → Th → Prop) : Prop := Hid (∀ S, bel S → R2 ω S Θ → Ctr ω yX1_letter cX1_letter 1 (some .int) d G [(0, l0)] S (eI S (q2 ω Θ Q)))
def w2_X1_hexByte (ω : AO) (d G : Nat) (l0 l1 : Int) (Θ : Th) (Q : Int → Th → Prop) : Prop := Hid (∀ S, bel S → R2 ω S Θ → Ctr ω yX1_hexByte cX1_hexByte 2 (some .int) d G [(2, l0), (0, l1)] S (eI S (q2 ω Θ Q)))
def w2_X27_isSign (ω : AO) (d G : Nat) (l0 : Int) (Θ : Th) (Q : Int → Th → Prop) : Prop := Hid (∀ S, bel S → R2 ω S Θ → Ctr ω yX27_isSign cX27_isSign 1 (some .boolean) d G [(0, l0)] S (eZ S (q2 ω Θ Q)))
def w2_X6_has (ω : AO) (d G : Nat) (l0 l1 l2 : Int) (Θ : Th) (Q : Int → Th → Prop) : Prop := Hid (∀ S, bel S → R2 ω S Θ → Ctr ω yX6_has cX6_has 5 (some .boolean) d G [(2, l0), (0, l1), (2, l2)] S (eZ S (q2 ω Θ Q)))
theorem lm_X12_7 : VLk RX12 7 2 yJ2_length cJ2_length 1 (some .int) 0 := sorry
theorem lm_X12_19 : VLk RX12 19 2 yJ2_charAt cJ2_charAt 2 (some .char) 1 := sorry
theorem lm_X12_13 : SLk RX12 13 yX12_hasPiece cX12_hasPiece 7 (some .boolean) 5 := sorry
theorem lm_X12_35 : ILk RX12 35 yJ1_init cJ1_init 1 0 := sorry
theorem lm_X12_40 : VLk RX12 40 1 yJ1_toString cJ1_toString 1 (some (.object "java/lang/String")) 0 := sorry
theorem lm_X12_36 : VLk RX12 36 1 yJ1_append cJ1_append 2 (some (.object "java/lang/StringBuilde\x72")) 1 := sorry
theorem lm_X12_44 : SLk RX12 44 yX12_isBlank cX12_isBlank 1 (some .boolean) 1 := sorry
theorem lm_X12_47 : VLk RX12 47 2 yJ2_substring cJ2_substring 5 (some (.object "java/lang/String")) 2 := sorry
theorem lm_X12_51 : VLk RX12 51 2 yJ2_isEmpty cJ2_isEmpty 1 (some .boolean) 0 := sorry
theorem lm_X12_59 : VLk RX12 59 2 yJ2_indexOf_3 cJ2_indexOf_3 2 (some .int) 1 := sorry
theorem lm_X12_63 : SLk RX12 63 yX12_begins cX12_begins 3 (some .boolean) 3 := sorry
theorem lm_X12_55 : SLk RX12 55 yX12_fitsFrom cX12_fitsFrom 6 (some .boolean) 3 := sorry
theorem ln_X12_68 : NLk RX12 68 yX5_init cX5_init 1 none 0 := sorry
theorem lm_X12_69 : VLk RX12 69 19 yX5_add cX5_add 2 none 1 := sorry
theorem lm_X1_58 : VLk RX1 58 2 yJ2_indexOf_3 cJ2_indexOf_3 2 (some .int) 1 := sorry
theorem lm_X1_47 : VLk RX1 47 19 yX5_at cX5_at 2 (some .int) 1 := sorry
theorem lm_X1_53 : SLk RX1 53 yX1_hex cX1_hex 1 (some .int) 1 := sorry
theorem lm_X27_22 : VLk RX27 22 2 yJ2_indexOf_3 cJ2_indexOf_3 2 (some .int) 1 := sorry
theorem lm_X6_57 : VLk RX6 57 2 yJ2_length cJ2_length 1 (some .int) 0 := sorry
theorem lm_X6_61 : VLk RX6 61 2 yJ2_charAt cJ2_charAt 2 (some .char) 1 := sorry
theorem lm_X6_65 : SLk RX6 65 yX44_isPart cX44_isPart 1 (some .boolean) 1 := sorry
theorem lm_X6_71 : SLk RX6 71 yX44_small cX44_small 1 (some .int) 1 := sorry
def W2_X12_hasPiece_21 (ω : AO) (d G : Nat) (l0 l1 l2 l3 l4 : Int) (g : Nat) (Θ : Th) (Q : Int → Th → Prop) : Prop := Hid (SJ2 ω yX12_hasPiece cX12_hasPiece 7 (some .boolean) d G (fun Sz Θz => (eZ Sz (q2 ω Θz Q))) 21 [(2, l0), (0, l1), (2, l2), (0, l3), (0, l4), vN, vN] [] g Θ)
def W2_X12_hasPiece_27 (ω : AO) (d G : Nat) (l0 l1 l2 l3 l4 l5 l6 : Int) (g : Nat) (Θ : Th) (Q : Int → Th → Prop) : Prop := Hid (SJ2 ω yX12_hasPiece cX12_hasPiece 7 (some .boolean) d G (fun Sz Θz => (eZ Sz (q2 ω Θz Q))) 27 [(2, l0), (0, l1), (2, l2), (0, l3), (0, l4), (0, l5), (0, l6)] [] g Θ)
set_option maxHeartbeats 4000000 in
theorem s2_X12_hasPiece {ω : AO} {d G : Nat} {l0 l1 l2 l3 l4 : Int} {Θ : Th} {Q : Int → Th → Prop} (hB : (-2147483648 ≤ l1 ∧ l1 < 2147483648) ∧ (∀ (c1 : l1 < 0), W2_X12_hasPiece_21 ω d G l0 l1 l2 l3 l4 (0) Θ Q) ∧ (∀ (c1 : 0 ≤ l1), (1 ≤ d) ∧ (kd Θ l0 = 2) ∧ (2 ≤ d) ∧ ∀ (x11 : Int) (e11 : x11 = len (vv Θ l0)) (r11 : -2147483648 ≤ x11 ∧ x11 < 2147483648), (-2147483648 ≤ ((l1 + l4) - l3) ∧ ((l1 + l4) - l3) < 2147483648) ∧ (∀ (c14 : x11 < ((l1 + l4) - l3)), W2_X12_hasPiece_21 ω d G l0 l1 l2 l3 l4 (0) Θ Q) ∧ (∀ (c14 : ((l1 + l4) - l3) ≤ x11), W2_X12_hasPiece_27 ω d G l0 l1 l2 l3 l4 1 l3 (0) Θ Q))) : w2_X12_hasPiece ω d G l0 l1 l2 l3 l4 Θ Q := sorry
set_option maxHeartbeats 4000000 in
theorem s2_X12_hasPiece_21 {ω : AO} {d G : Nat} {l0 l1 l2 l3 l4 : Int} {g : Nat} {Θ : Th} {Q : Int → Th → Prop} (hB : W2_X12_hasPiece_27 ω d G l0 l1 l2 l3 l4 0 l3 (g) Θ Q) : W2_X12_hasPiece_21 ω d G l0 l1 l2 l3 l4 g Θ Q := sorry
set_option maxHeartbeats 4000000 in
theorem s2_X12_hasPiece_27 {ω : AO} {d G : Nat} {l0 l1 l2 l3 l4 l5 l6 : Int} {g : Nat} {Θ : Th} {Q : Int → Th → Prop} (hB : (-2147483648 ≤ l6 ∧ l6 < 2147483648) ∧ (-2147483648 ≤ l4 ∧ l4 < 2147483648) ∧ (∀ (c31 : l4 ≤ l6), (g ≤ G) ∧ (l5 = 0 ∨ l5 = 1) ∧ Q l5 Θ) ∧ (∀ (c31 : l6 < l4), (-2147483648 ≤ l5 ∧ l5 < 2147483648) ∧ (∀ (c36 : l5 = 0), (g ≤ G) ∧ (l5 = 0 ∨ l5 = 1) ∧ Q l5 Θ) ∧ (∀ (c36 : ¬ l5 = 0), (1 ≤ d) ∧ (kd Θ l0 = 2) ∧ (0 ≤ ((l1 + l6) - l3) ∧ ((l1 + l6) - l3) < len (vv Θ l0)) ∧ (5 ≤ d) ∧ (g ≤ G) ∧ ∀ (x46 : Int) (e46 : x46 = gt (vv Θ l0) ((l1 + l6) - l3)) (r46 : 0 ≤ x46 ∧ x46 < 65536), (kd Θ l2 = 2) ∧ (0 ≤ l6 ∧ l6 < len (vv Θ l2)) ∧ ∀ (x52 : Int) (e52 : x52 = gt (vv Θ l2) l6) (r52 : 0 ≤ x52 ∧ x52 < 65536), (∀ (c55 : ¬ x46 = x52), W2_X12_hasPiece_27 ω d G l0 l1 l2 l3 l4 0 ((l6 + 1)) (g) Θ Q) ∧ (∀ (c55 : x46 = x52), W2_X12_hasPiece_27 ω d G l0 l1 l2 l3 l4 1 ((l6 + 1)) (g) Θ Q)))) : W2_X12_hasPiece_27 ω d G l0 l1 l2 l3 l4 l5 l6 g Θ Q := sorry
set_option maxHeartbeats 4000000 in
theorem s2_X12_begins {ω : AO} {d G : Nat} {l0 l1 l2 : Int} {Θ : Th} {Q : Int → Th → Prop} (hB : (1 ≤ d) ∧ (kd Θ l1 = 2) ∧ (2 ≤ d) ∧ ∀ (x5 : Int) (e5 : x5 = len (vv Θ l1)) (r5 : -2147483648 ≤ x5 ∧ x5 < 2147483648), ∃ G8 : Nat, (0 + G8 ≤ G) ∧ w2_X12_hasPiece ω (d - 1) G8 l0 l2 l1 0 x5 Θ (fun x8 Θ8 => ∀ (L8 : Le Θ Θ8) (r8 : x8 = 0 ∨ x8 = 1), (0 + G8 ≤ G) ∧ Q x8 Θ8)) : w2_X12_begins ω d G l0 l1 l2 Θ Q := sorry
def W2_X12_order_2 (ω : AO) (d G : Nat) (l0 l1 l2 : Int) (g : Nat) (Θ : Th) (Q : Int → Th → Prop) : Prop := Hid (SJ2 ω yX12_order cX12_order 3 (some .int) d G (fun Sz Θz => (eI Sz (q2 ω Θz Q))) 2 [(2, l0), (2, l1), (0, l2)] [] g Θ)
def W2_X12_order_37 (ω : AO) (d G : Nat) (l0 l1 l2 : Int) (g : Nat) (Θ : Th) (Q : Int → Th → Prop) : Prop := Hid (SJ2 ω yX12_order cX12_order 3 (some .int) d G (fun Sz Θz => (eI Sz (q2 ω Θz Q))) 37 [(2, l0), (2, l1), (0, l2)] [] g Θ)
def W2_X12_order_67 (ω : AO) (d G : Nat) (l0 l1 : Int) (g : Nat) (Θ : Th) (Q : Int → Th → Prop) : Prop := Hid (SJ2 ω yX12_order cX12_order 3 (some .int) d G (fun Sz Θz => (eI Sz (q2 ω Θz Q))) 67 [(2, l0), (2, l1), vN] [] g Θ)
set_option maxHeartbeats 4000000 in
theorem s2_X12_order {ω : AO} {d G : Nat} {l0 l1 : Int} {Θ : Th} {Q : Int → Th → Prop} (hB : W2_X12_order_2 ω d G l0 l1 0 (0) Θ Q) : w2_X12_order ω d G l0 l1 Θ Q := sorry
set_option maxHeartbeats 4000000 in
theorem s2_X12_order_2 {ω : AO} {d G : Nat} {l0 l1 l2 : Int} {g : Nat} {Θ : Th} {Q : Int → Th → Prop} (hB : (1 ≤ d) ∧ (kd Θ l0 = 2) ∧ (2 ≤ d) ∧ (g ≤ G) ∧ ∀ (x4 : Int) (e4 : x4 = len (vv Θ l0)) (r4 : -2147483648 ≤ x4 ∧ x4 < 2147483648), (-2147483648 ≤ l2 ∧ l2 < 2147483648) ∧ (∀ (c7 : x4 ≤ l2), W2_X12_order_37 ω d G l0 l1 l2 (g) Θ Q) ∧ (∀ (c7 : l2 < x4), (kd Θ l1 = 2) ∧ ∀ (x12 : Int) (e12 : x12 = len (vv Θ l1)) (r12 : -2147483648 ≤ x12 ∧ x12 < 2147483648), (∀ (c15 : x12 ≤ l2), W2_X12_order_37 ω d G l0 l1 l2 (g) Θ Q) ∧ (∀ (c15 : l2 < x12), (0 ≤ l2 ∧ l2 < len (vv Θ l0)) ∧ (5 ≤ d) ∧ ∀ (x20 : Int) (e20 : x20 = gt (vv Θ l0) l2) (r20 : 0 ≤ x20 ∧ x20 < 65536), (0 ≤ l2 ∧ l2 < len (vv Θ l1)) ∧ ∀ (x25 : Int) (e25 : x25 = gt (vv Θ l1) l2) (r25 : 0 ≤ x25 ∧ x25 < 65536), (∀ (c28 : ¬ x20 = x25), W2_X12_order_37 ω d G l0 l1 l2 (g) Θ Q) ∧ (∀ (c28 : x20 = x25), W2_X12_order_2 ω d G l0 l1 ((l2 + 1)) (g) Θ Q)))) : W2_X12_order_2 ω d G l0 l1 l2 g Θ Q := sorry
set_option maxHeartbeats 4000000 in
theorem s2_X12_order_37 {ω : AO} {d G : Nat} {l0 l1 l2 : Int} {g : Nat} {Θ : Th} {Q : Int → Th → Prop} (hB : (1 ≤ d) ∧ (kd Θ l0 = 2) ∧ (2 ≤ d) ∧ (g ≤ G) ∧ ∀ (x39 : Int) (e39 : x39 = len (vv Θ l0)) (r39 : -2147483648 ≤ x39 ∧ x39 < 2147483648), (-2147483648 ≤ l2 ∧ l2 < 2147483648) ∧ (∀ (c42 : x39 ≤ l2), W2_X12_order_67 ω d G l0 l1 (g) Θ Q) ∧ (∀ (c42 : l2 < x39), (kd Θ l1 = 2) ∧ ∀ (x47 : Int) (e47 : x47 = len (vv Θ l1)) (r47 : -2147483648 ≤ x47 ∧ x47 < 2147483648), (∀ (c50 : x47 ≤ l2), W2_X12_order_67 ω d G l0 l1 (g) Θ Q) ∧ (∀ (c50 : l2 < x47), (0 ≤ l2 ∧ l2 < len (vv Θ l0)) ∧ (5 ≤ d) ∧ ∀ (x55 : Int) (e55 : x55 = gt (vv Θ l0) l2) (r55 : 0 ≤ x55 ∧ x55 < 65536), (0 ≤ l2 ∧ l2 < len (vv Θ l1)) ∧ ∀ (x60 : Int) (e60 : x60 = gt (vv Θ l1) l2) (r60 : 0 ≤ x60 ∧ x60 < 65536), Q (x55 - x60) Θ))) : W2_X12_order_37 ω d G l0 l1 l2 g Θ Q := sorry
set_option maxHeartbeats 4000000 in
theorem s2_X12_order_67 {ω : AO} {d G : Nat} {l0 l1 : Int} {g : Nat} {Θ : Th} {Q : Int → Th → Prop} (hB : (1 ≤ d) ∧ (kd Θ l0 = 2) ∧ (2 ≤ d) ∧ (g ≤ G) ∧ ∀ (x68 : Int) (e68 : x68 = len (vv Θ l0)) (r68 : -2147483648 ≤ x68 ∧ x68 < 2147483648), (kd Θ l1 = 2) ∧ ∀ (x72 : Int) (e72 : x72 = len (vv Θ l1)) (r72 : -2147483648 ≤ x72 ∧ x72 < 2147483648), (-2147483648 ≤ (x68 - x72) ∧ (x68 - x72) < 2147483648) ∧ Q (x68 - x72) Θ) : W2_X12_order_67 ω d G l0 l1 g Θ Q := sorry
def W2_X12_small_10 (ω : AO) (d G : Nat) (l0 l1 l2 : Int) (g : Nat) (Θ : Th) (Q : Int → Th → Prop) : Prop := Hid (SJ2 ω yX12_small cX12_small 3 (some (.object "java/lang/String")) d G (fun Sz Θz => (eA Sz (q2 ω Θz Q))) 10 [(2, l0), (2, l1), (0, l2)] [] g Θ)
def W2_X12_small_47 (ω : AO) (d G : Nat) (l0 l1 l2 s0 s1 : Int) (g : Nat) (Θ : Th) (Q : Int → Th → Prop) : Prop := Hid (SJ2 ω yX12_small cX12_small 3 (some (.object "java/lang/String")) d G (fun Sz Θz => (eA Sz (q2 ω Θz Q))) 47 [(2, l0), (2, l1), (0, l2)] [(0, s0), (2, s1)] g Θ)
set_option maxHeartbeats 4000000 in
theorem s2_X12_small {ω : AO} {d G : Nat} {l0 : Int} {Θ : Th} {Q : Int → Th → Prop} (hB : (0 + 1 ≤ G) ∧ ∀ (v0 : Int) (Θ0 : Th) (u0 : nt Θ ≤ v0 ∧ 0 ≤ v0) (b0 : Bl Θ) (t0 : Θ0 = nu Θ v0 (201, [], 0, 0)), (1 ≤ d) ∧ (3 ≤ d) ∧ (0 + 1 + 5 ≤ G) ∧ ∀ (Θ4 : Th) (t4 : Θ4 = uq Θ0 v0 (1, [], 16, 0)), W2_X12_small_10 ω d G l0 v0 0 (0 + 1 + 5) Θ4 Q) : w2_X12_small ω d G l0 Θ Q := sorry
set_option maxHeartbeats 4000000 in
theorem s2_X12_small_10 {ω : AO} {d G : Nat} {l0 l1 l2 : Int} {g : Nat} {Θ : Th} {Q : Int → Th → Prop} (hB : (1 ≤ d) ∧ (kd Θ l0 = 2) ∧ (2 ≤ d) ∧ (g ≤ G) ∧ ∀ (x12 : Int) (e12 : x12 = len (vv Θ l0)) (r12 : -2147483648 ≤ x12 ∧ x12 < 2147483648), (-2147483648 ≤ l2 ∧ l2 < 2147483648) ∧ (∀ (c15 : x12 ≤ l2), (kd Θ l1 = 1) ∧ (len (vv Θ l1) ≤ 15000000) ∧ (8 ≤ d) ∧ (g + (len (vv Θ l1) + 5).toNat ≤ G) ∧ ∀ (x58 : Int) (Θ58 : Th) (e58 : NewS Θ Θ58 x58 (vv Θ l1)) (n58 : nt Θ ≤ x58), Q x58 Θ58) ∧ (∀ (c15 : l2 < x12), (0 ≤ l2 ∧ l2 < len (vv Θ l0)) ∧ (5 ≤ d) ∧ ∀ (x21 : Int) (e21 : x21 = gt (vv Θ l0) l2) (r21 : 0 ≤ x21 ∧ x21 < 65536), ∀ (x24 : Int) (e24 : x24 = if chLt x21 then 1 else 0) (r24 : x24 = 0 ∨ x24 = 1), (∀ (c27 : x24 = 0), ∀ (x44 : Int) (e44 : x44 = gt (vv Θ l0) l2) (r44 : 0 ≤ x44 ∧ x44 < 65536), W2_X12_small_47 ω d G l0 l1 l2 x44 l1 (g) Θ Q) ∧ (∀ (c27 : ¬ x24 = 0), ∀ (x32 : Int) (e32 : x32 = gt (vv Θ l0) l2) (r32 : 0 ≤ x32 ∧ x32 < 65536), W2_X12_small_47 ω d G l0 l1 l2 (((orI x32 32) % 65536)) l1 (g) Θ Q))) : W2_X12_small_10 ω d G l0 l1 l2 g Θ Q := sorry
set_option maxHeartbeats 4000000 in
theorem s2_X12_small_47 {ω : AO} {d G : Nat} {l0 l1 l2 s0 s1 : Int} {g : Nat} {Θ : Th} {Q : Int → Th → Prop} (hB : (1 ≤ d) ∧ (kd Θ s1 = 1) ∧ (¬ fz Θ s1) ∧ (bC (cp Θ s1) (len (vv Θ s1) + 1) ≤ 20000000) ∧ (0 ≤ s0 ∧ s0 < 65536) ∧ (9 ≤ d) ∧ (g + (bK (bC (cp Θ s1) (len (vv Θ s1) + 1)) (if s0 ≤ 255 then cx Θ s1 else 1) - bK (cp Θ s1) (cx Θ s1)).toNat ≤ G) ∧ ∀ (Θ47 : Th) (t47 : Θ47 = uq Θ s1 (1, vv Θ s1 ++ [s0], bC (cp Θ s1) (len (vv Θ s1) + 1), if s0 ≤ 255 then cx Θ s1 else 1)), W2_X12_small_10 ω d G l0 l1 ((l2 + 1)) (g + (bK (bC (cp Θ s1) (len (vv Θ s1) + 1)) (if s0 ≤ 255 then cx Θ s1 else 1) - bK (cp Θ s1) (cx Θ s1)).toNat) Θ47 Q) : W2_X12_small_47 ω d G l0 l1 l2 s0 s1 g Θ Q := sorry
def W2_X12_trim_7 (ω : AO) (d G : Nat) (l0 l1 l2 : Int) (g : Nat) (Θ : Th) (Q : Int → Th → Prop) : Prop := Hid (SJ2 ω yX12_trim cX12_trim 3 (some (.object "java/lang/String")) d G (fun Sz Θz => (eA Sz (q2 ω Θz Q))) 7 [(2, l0), (0, l1), (0, l2)] [] g Θ)
def W2_X12_trim_29 (ω : AO) (d G : Nat) (l0 l1 l2 : Int) (g : Nat) (Θ : Th) (Q : Int → Th → Prop) : Prop := Hid (SJ2 ω yX12_trim cX12_trim 3 (some (.object "java/lang/String")) d G (fun Sz Θz => (eA Sz (q2 ω Θz Q))) 29 [(2, l0), (0, l1), (0, l2)] [] g Θ)
def W2_X12_trim_53 (ω : AO) (d G : Nat) (l0 l1 l2 : Int) (g : Nat) (Θ : Th) (Q : Int → Th → Prop) : Prop := Hid (SJ2 ω yX12_trim cX12_trim 3 (some (.object "java/lang/String")) d G (fun Sz Θz => (eA Sz (q2 ω Θz Q))) 53 [(2, l0), (0, l1), (0, l2)] [] g Θ)
set_option maxHeartbeats 4000000 in
theorem s2_X12_trim {ω : AO} {d G : Nat} {l0 : Int} {Θ : Th} {Q : Int → Th → Prop} (hB : (1 ≤ d) ∧ (kd Θ l0 = 2) ∧ (2 ≤ d) ∧ ∀ (x3 : Int) (e3 : x3 = len (vv Θ l0)) (r3 : -2147483648 ≤ x3 ∧ x3 < 2147483648), W2_X12_trim_7 ω d G l0 0 x3 (0) Θ Q) : w2_X12_trim ω d G l0 Θ Q := sorry
set_option maxHeartbeats 4000000 in
theorem s2_X12_trim_7 {ω : AO} {d G : Nat} {l0 l1 l2 : Int} {g : Nat} {Θ : Th} {Q : Int → Th → Prop} (hB : (-2147483648 ≤ l1 ∧ l1 < 2147483648) ∧ (-2147483648 ≤ l2 ∧ l2 < 2147483648) ∧ (∀ (c9 : l2 ≤ l1), W2_X12_trim_29 ω d G l0 l1 l2 (g) Θ Q) ∧ (∀ (c9 : l1 < l2), (1 ≤ d) ∧ (kd Θ l0 = 2) ∧ (0 ≤ l1 ∧ l1 < len (vv Θ l0)) ∧ (5 ≤ d) ∧ (g ≤ G) ∧ ∀ (x14 : Int) (e14 : x14 = gt (vv Θ l0) l1) (r14 : 0 ≤ x14 ∧ x14 < 65536), ∀ (x17 : Int) (e17 : x17 = if chBl x14 then 1 else 0) (r17 : x17 = 0 ∨ x17 = 1), (∀ (c20 : x17 = 0), W2_X12_trim_29 ω d G l0 l1 l2 (g) Θ Q) ∧ (∀ (c20 : ¬ x17 = 0), W2_X12_trim_7 ω d G l0 ((l1 + 1)) l2 (g) Θ Q))) : W2_X12_trim_7 ω d G l0 l1 l2 g Θ Q := sorry
set_option maxHeartbeats 4000000 in
theorem s2_X12_trim_29 {ω : AO} {d G : Nat} {l0 l1 l2 : Int} {g : Nat} {Θ : Th} {Q : Int → Th → Prop} (hB : (-2147483648 ≤ l2 ∧ l2 < 2147483648) ∧ (-2147483648 ≤ l1 ∧ l1 < 2147483648) ∧ (∀ (c31 : l2 ≤ l1), W2_X12_trim_53 ω d G l0 l1 l2 (g) Θ Q) ∧ (∀ (c31 : l1 < l2), (1 ≤ d) ∧ (kd Θ l0 = 2) ∧ (0 ≤ (l2 - 1) ∧ (l2 - 1) < len (vv Θ l0)) ∧ (5 ≤ d) ∧ (g ≤ G) ∧ ∀ (x38 : Int) (e38 : x38 = gt (vv Θ l0) (l2 - 1)) (r38 : 0 ≤ x38 ∧ x38 < 65536), ∀ (x41 : Int) (e41 : x41 = if chBl x38 then 1 else 0) (r41 : x41 = 0 ∨ x41 = 1), (∀ (c44 : x41 = 0), W2_X12_trim_53 ω d G l0 l1 l2 (g) Θ Q) ∧ (∀ (c44 : ¬ x41 = 0), W2_X12_trim_29 ω d G l0 l1 ((l2 + (-1))) (g) Θ Q))) : W2_X12_trim_29 ω d G l0 l1 l2 g Θ Q := sorry
set_option maxHeartbeats 4000000 in
theorem s2_X12_trim_53 {ω : AO} {d G : Nat} {l0 l1 l2 : Int} {g : Nat} {Θ : Th} {Q : Int → Th → Prop} (hB : (1 ≤ d) ∧ (kd Θ l0 = 2) ∧ (0 ≤ l1 ∧ l1 ≤ l2 ∧ l2 ≤ len (vv Θ l0)) ∧ (l1 < l2 ∨ wide (vv Θ l0) = 0 ∨ vv Θ l0 = []) ∧ (7 ≤ d) ∧ (g + (l2 - l1 + 5).toNat ≤ G) ∧ ∀ (x56 : Int) (Θ56 : Th) (e56 : NewS Θ Θ56 x56 (sub (vv Θ l0) l1 l2)), Q x56 Θ56) : W2_X12_trim_53 ω d G l0 l1 l2 g Θ Q := sorry
def W2_X12_areDigits_15 (ω : AO) (d G : Nat) (l0 l1 l2 : Int) (g : Nat) (Θ : Th) (Q : Int → Th → Prop) : Prop := Hid (SJ2 ω yX12_areDigits cX12_areDigits 3 (some .boolean) d G (fun Sz Θz => (eZ Sz (q2 ω Θz Q))) 15 [(2, l0), (0, l1), (0, l2)] [] g Θ)
def W2_X12_areDigits_42 (ω : AO) (d G : Nat) (l0 l2 : Int) (g : Nat) (Θ : Th) (Q : Int → Th → Prop) : Prop := Hid (SJ2 ω yX12_areDigits cX12_areDigits 3 (some .boolean) d G (fun Sz Θz => (eZ Sz (q2 ω Θz Q))) 42 [(2, l0), vN, (0, l2)] [] g Θ)
set_option maxHeartbeats 4000000 in
theorem s2_X12_areDigits {ω : AO} {d G : Nat} {l0 : Int} {Θ : Th} {Q : Int → Th → Prop} (hB : (1 ≤ d) ∧ (kd Θ l0 = 2) ∧ ∀ (x1 : Int) (e1 : x1 = if vv Θ l0 = [] then 1 else 0) (r1 : x1 = 0 ∨ x1 = 1), (∀ (c4 : ¬ x1 = 0), W2_X12_areDigits_15 ω d G l0 0 0 (0) Θ Q) ∧ (∀ (c4 : x1 = 0), W2_X12_areDigits_15 ω d G l0 1 0 (0) Θ Q)) : w2_X12_areDigits ω d G l0 Θ Q := sorry
set_option maxHeartbeats 4000000 in
theorem s2_X12_areDigits_15 {ω : AO} {d G : Nat} {l0 l1 l2 : Int} {g : Nat} {Θ : Th} {Q : Int → Th → Prop} (hB : (1 ≤ d) ∧ (kd Θ l0 = 2) ∧ (2 ≤ d) ∧ (g ≤ G) ∧ ∀ (x17 : Int) (e17 : x17 = len (vv Θ l0)) (r17 : -2147483648 ≤ x17 ∧ x17 < 2147483648), (-2147483648 ≤ l2 ∧ l2 < 2147483648) ∧ (∀ (c20 : x17 ≤ l2), (l1 = 0 ∨ l1 = 1) ∧ Q l1 Θ) ∧ (∀ (c20 : l2 < x17), (-2147483648 ≤ l1 ∧ l1 < 2147483648) ∧ (∀ (c24 : l1 = 0), W2_X12_areDigits_42 ω d G l0 l2 (g) Θ Q) ∧ (∀ (c24 : ¬ l1 = 0), (0 ≤ l2 ∧ l2 < len (vv Θ l0)) ∧ (5 ≤ d) ∧ ∀ (x29 : Int) (e29 : x29 = gt (vv Θ l0) l2) (r29 : 0 ≤ x29 ∧ x29 < 65536), ∀ (x32 : Int) (e32 : x32 = if chDg x29 then 1 else 0) (r32 : x32 = 0 ∨ x32 = 1), (∀ (c35 : x32 = 0), W2_X12_areDigits_42 ω d G l0 l2 (g) Θ Q) ∧ (∀ (c35 : ¬ x32 = 0), W2_X12_areDigits_15 ω d G l0 1 ((l2 + 1)) (g) Θ Q)))) : W2_X12_areDigits_15 ω d G l0 l1 l2 g Θ Q := sorry
set_option maxHeartbeats 4000000 in
theorem s2_X12_areDigits_42 {ω : AO} {d G : Nat} {l0 l2 : Int} {g : Nat} {Θ : Th} {Q : Int → Th → Prop} (hB : W2_X12_areDigits_15 ω d G l0 0 ((l2 + 1)) (g) Θ Q) : W2_X12_areDigits_42 ω d G l0 l2 g Θ Q := sorry
def W2_X12_number_4 (ω : AO) (d G : Nat) (l0 l1 l2 : Int) (g : Nat) (Θ : Th) (Q : Int → Th → Prop) : Prop := Hid (SJ2 ω yX12_number cX12_number 3 (some .int) d G (fun Sz Θz => (eI Sz (q2 ω Θz Q))) 4 [(2, l0), (0, l1), (0, l2)] [] g Θ)
set_option maxHeartbeats 4000000 in
theorem s2_X12_number {ω : AO} {d G : Nat} {l0 : Int} {Θ : Th} {Q : Int → Th → Prop} (hB : W2_X12_number_4 ω d G l0 0 0 (0) Θ Q) : w2_X12_number ω d G l0 Θ Q := sorry
set_option maxHeartbeats 4000000 in
theorem s2_X12_number_4 {ω : AO} {d G : Nat} {l0 l1 l2 : Int} {g : Nat} {Θ : Th} {Q : Int → Th → Prop} (hB : (1 ≤ d) ∧ (kd Θ l0 = 2) ∧ (2 ≤ d) ∧ (g ≤ G) ∧ ∀ (x6 : Int) (e6 : x6 = len (vv Θ l0)) (r6 : -2147483648 ≤ x6 ∧ x6 < 2147483648), (-2147483648 ≤ l2 ∧ l2 < 2147483648) ∧ (∀ (c9 : x6 ≤ l2), (-2147483648 ≤ l1 ∧ l1 < 2147483648) ∧ Q l1 Θ) ∧ (∀ (c9 : l2 < x6), (∀ (c15 : 9 ≤ l2), (-2147483648 ≤ l1 ∧ l1 < 2147483648) ∧ Q l1 Θ) ∧ (∀ (c15 : l2 < 9), (0 ≤ l2 ∧ l2 < len (vv Θ l0)) ∧ (5 ≤ d) ∧ ∀ (x24 : Int) (e24 : x24 = gt (vv Θ l0) l2) (r24 : 0 ≤ x24 ∧ x24 < 65536), W2_X12_number_4 ω d G l0 ((((10 * l1) + x24) - 48)) ((l2 + 1)) (g) Θ Q))) : W2_X12_number_4 ω d G l0 l1 l2 g Θ Q := sorry
set_option maxHeartbeats 4000000 in
theorem s2_X12_fitsFrom {ω : AO} {d G : Nat} {l0 l1 l2 : Int} {Θ : Th} {Q : Int → Th → Prop} (hB : (1 ≤ d) ∧ (kd Θ l0 = 2) ∧ (7 ≤ d) ∧ ∀ (x3 : Int) (e3 : x3 = idx (vv Θ l0) (42 : Int) 0) (r3 : -2147483648 ≤ x3 ∧ x3 < 2147483648), (kd Θ l1 = 2) ∧ (2 ≤ d) ∧ ∀ (x8 : Int) (e8 : x8 = len (vv Θ l1)) (r8 : -2147483648 ≤ x8 ∧ x8 < 2147483648), (∀ (c16 : 0 ≤ x3), ∀ (x44 : Int) (e44 : x44 = len (vv Θ l0)) (r44 : -2147483648 ≤ x44 ∧ x44 < 2147483648), ∀ (x56 : Int) (e56 : x56 = len (vv Θ l0)) (r56 : -2147483648 ≤ x56 ∧ x56 < 2147483648), (-2147483648 ≤ (x8 - l2) ∧ (x8 - l2) < 2147483648) ∧ (-2147483648 ≤ (x56 - 1) ∧ (x56 - 1) < 2147483648) ∧ (∀ (c61 : (x8 - l2) < (x56 - 1)), Q 0 Θ) ∧ (∀ (c61 : (x56 - 1) ≤ (x8 - l2)), ∃ G69 : Nat, (0 + G69 ≤ G) ∧ w2_X12_hasPiece ω (d - 1) G69 l1 l2 l0 0 x3 Θ (fun x69 Θ69 => ∀ (L69 : Le Θ Θ69) (r69 : x69 = 0 ∨ x69 = 1), (∀ (c72 : x69 = 0), (0 + G69 ≤ G) ∧ Q 0 Θ69) ∧ (∀ (c72 : ¬ x69 = 0), (0 + G69 ≤ G) ∧ ∀ (x77 : Int) (e77 : x77 = len (vv Θ69 l1)) (r77 : -2147483648 ≤ x77 ∧ x77 < 2147483648), ∀ (x88 : Int) (e88 : x88 = len (vv Θ69 l0)) (r88 : -2147483648 ≤ x88 ∧ x88 < 2147483648), ∃ G91 : Nat, (0 + G69 + G91 ≤ G) ∧ w2_X12_hasPiece ω (d - 1) G91 l1 (x77 - ((x44 - x3) - 1)) l0 (x3 + 1) x88 Θ69 (fun x91 Θ91 => ∀ (L91 : Le Θ69 Θ91) (r91 : x91 = 0 ∨ x91 = 1), (∀ (c94 : x91 = 0), (0 + G69 + G91 ≤ G) ∧ Q 0 Θ91) ∧ (∀ (c94 : ¬ x91 = 0), (0 + G69 + G91 ≤ G) ∧ Q 1 Θ91)))))) ∧ (∀ (c16 : x3 < 0), ∀ (x22 : Int) (e22 : x22 = len (vv Θ l0)) (r22 : -2147483648 ≤ x22 ∧ x22 < 2147483648), (-2147483648 ≤ (x8 - l2) ∧ (x8 - l2) < 2147483648) ∧ (∀ (c25 : ¬ (x8 - l2) = x22), Q 0 Θ) ∧ (∀ (c25 : (x8 - l2) = x22), ∃ G31 : Nat, (0 + G31 ≤ G) ∧ w2_X12_begins ω (d - 1) G31 l1 l0 l2 Θ (fun x31 Θ31 => ∀ (L31 : Le Θ Θ31) (r31 : x31 = 0 ∨ x31 = 1), (∀ (c34 : x31 = 0), (0 + G31 ≤ G) ∧ Q 0 Θ31) ∧ (∀ (c34 : ¬ x31 = 0), (0 + G31 ≤ G) ∧ Q 1 Θ31))))) : w2_X12_fitsFrom ω d G l0 l1 l2 Θ Q := sorry
set_option maxHeartbeats 4000000 in
theorem s2_X12_fits {ω : AO} {d G : Nat} {l0 l1 : Int} {Θ : Th} {Q : Int → Th → Prop} (hB : (1 ≤ d) ∧ ∃ G3 : Nat, (0 + G3 ≤ G) ∧ w2_X12_fitsFrom ω (d - 1) G3 l0 l1 0 Θ (fun x3 Θ3 => ∀ (L3 : Le Θ Θ3) (r3 : x3 = 0 ∨ x3 = 1), (0 + G3 ≤ G) ∧ Q x3 Θ3)) : w2_X12_fits ω d G l0 l1 Θ Q := sorry
def W2_X12_ints_10 (ω : AO) (d G : Nat) (l0 l1 l2 : Int) (g : Nat) (Θ : Th) (Q : Int → Th → Prop) : Prop := Hid (SJ2 ω yX12_ints cX12_ints 3 (some (.object "MailWorks$Ints")) d G (fun Sz Θz => (eA Sz (q2 ω Θz Q))) 10 [(2, l0), (2, l1), (0, l2)] [] g Θ)
set_option maxHeartbeats 4000000 in
theorem s2_X12_ints {ω : AO} {d G : Nat} {l0 : Int} {Θ : Th} {Q : Int → Th → Prop} (hB : (0 + 1 ≤ G) ∧ ∀ (v0 : Int) (Θ0 : Th) (u0 : nt Θ ≤ v0 ∧ 0 ≤ v0) (b0 : Bl Θ) (t0 : Θ0 = nu Θ v0 (219, [], 0, 0)), (1 ≤ d) ∧ (2 ≤ d) ∧ (0 + 1 + 3 ≤ G) ∧ ∀ (Θ4 : Th) (t4 : Θ4 = uq Θ0 v0 (19, [], 8, 0)), W2_X12_ints_10 ω d G l0 v0 0 (0 + 1 + 3) Θ4 Q) : w2_X12_ints ω d G l0 Θ Q := sorry
set_option maxHeartbeats 4000000 in
theorem s2_X12_ints_10 {ω : AO} {d G : Nat} {l0 l1 l2 : Int} {g : Nat} {Θ : Th} {Q : Int → Th → Prop} (hB : (1 ≤ d) ∧ (kd Θ l0 = 2) ∧ (2 ≤ d) ∧ (g ≤ G) ∧ ∀ (x12 : Int) (e12 : x12 = len (vv Θ l0)) (r12 : -2147483648 ≤ x12 ∧ x12 < 2147483648), (-2147483648 ≤ l2 ∧ l2 < 2147483648) ∧ (∀ (c15 : x12 ≤ l2), (-1 ≤ l1) ∧ Q l1 Θ) ∧ (∀ (c15 : l2 < x12), (0 ≤ l2 ∧ l2 < len (vv Θ l0)) ∧ (5 ≤ d) ∧ ∀ (x21 : Int) (e21 : x21 = gt (vv Θ l0) l2) (r21 : 0 ≤ x21 ∧ x21 < 65536), (kd Θ l1 = 19) ∧ (¬ fz Θ l1) ∧ (rwC (cp Θ l1) (len (vv Θ l1)) ≤ 60000000) ∧ (3 ≤ d) ∧ (g + (rwK (cp Θ l1) (len (vv Θ l1))).toNat ≤ G) ∧ ∀ (Θ24 : Th) (t24 : Θ24 = uq Θ l1 (19, vv Θ l1 ++ [x21], rwC (cp Θ l1) (len (vv Θ l1)), cx Θ l1)), W2_X12_ints_10 ω d G l0 l1 ((l2 + 1)) (g + (rwK (cp Θ l1) (len (vv Θ l1))).toNat) Θ24 Q)) : W2_X12_ints_10 ω d G l0 l1 l2 g Θ Q := sorry
set_option maxHeartbeats 4000000 in
theorem s2_X1_letter {ω : AO} {d G : Nat} {l0 : Int} {Θ : Th} {Q : Int → Th → Prop} (hB : (-2147483648 ≤ l0 ∧ l0 < 2147483648) ∧ (∀ (c1 : 0 ≤ l0), ∀ (v8 : Int) (h8 : Str Θ v8 [65, 66, 67, 68, 69, 70, 71, 72, 73, 74, 75, 76, 77, 78, 79, 80, 81, 82, 83, 84, 85, 86, 87, 88, 89, 90, 97, 98, 99, 100, 101, 102, 103, 104, 105, 106, 107, 108, 109, 110, 111, 112, 113, 114, 115, 116, 117, 118, 119, 120, 121, 122, 48, 49, 50, 51, 52, 53, 54, 55, 56, 57, 43, 47]), (1 ≤ d) ∧ (7 ≤ d) ∧ ∀ (x12 : Int) (e12 : x12 = idx (vv Θ v8) (l0 % 65536) 0) (r12 : -2147483648 ≤ x12 ∧ x12 < 2147483648), Q x12 Θ) ∧ (∀ (c1 : l0 < 0), Q (-1) Θ)) : w2_X1_letter ω d G l0 Θ Q := sorry
set_option maxHeartbeats 4000000 in
theorem s2_X1_hexByte {ω : AO} {d G : Nat} {l0 l1 : Int} {Θ : Th} {Q : Int → Th → Prop} (hB : (1 ≤ d) ∧ (kd Θ l0 = 19) ∧ (-2147483648 ≤ l1 ∧ l1 < 2147483648) ∧ ∀ (x2 : Int) (e2 : x2 = atI (vv Θ l0) l1) (r2 : -2147483648 ≤ x2 ∧ x2 < 2147483648), ∀ (x5 : Int) (e5 : x5 = hxF x2) (r5 : -2147483648 ≤ x5 ∧ x5 < 2147483648), (∀ (c8 : x5 < 0), Q (-1) Θ) ∧ (∀ (c8 : 0 ≤ x5), (-2147483648 ≤ (l1 + 1) ∧ (l1 + 1) < 2147483648) ∧ ∀ (x15 : Int) (e15 : x15 = atI (vv Θ l0) (l1 + 1)) (r15 : -2147483648 ≤ x15 ∧ x15 < 2147483648), ∀ (x18 : Int) (e18 : x18 = hxF x15) (r18 : -2147483648 ≤ x18 ∧ x18 < 2147483648), (∀ (c21 : 0 ≤ x18), ∀ (x32 : Int) (e32 : x32 = atI (vv Θ l0) l1) (r32 : -2147483648 ≤ x32 ∧ x32 < 2147483648), ∀ (x35 : Int) (e35 : x35 = hxF x32) (r35 : -2147483648 ≤ x35 ∧ x35 < 2147483648), ∀ (x43 : Int) (e43 : x43 = atI (vv Θ l0) (l1 + 1)) (r43 : -2147483648 ≤ x43 ∧ x43 < 2147483648), ∀ (x46 : Int) (e46 : x46 = hxF x43) (r46 : -2147483648 ≤ x46 ∧ x46 < 2147483648), (-2147483648 ≤ ((16 * x35) + x46) ∧ ((16 * x35) + x46) < 2147483648) ∧ Q ((16 * x35) + x46) Θ) ∧ (∀ (c21 : x18 < 0), Q (-1) Θ))) : w2_X1_hexByte ω d G l0 l1 Θ Q := sorry
set_option maxHeartbeats 4000000 in
theorem s2_X27_isSign {ω : AO} {d G : Nat} {l0 : Int} {Θ : Th} {Q : Int → Th → Prop} (hB : ∀ (v0 : Int) (h0 : Str Θ v0 [60, 62, 58, 59, 64, 44, 46, 41, 93, 92]), (1 ≤ d) ∧ (0 ≤ l0 ∧ l0 < 65536) ∧ (7 ≤ d) ∧ ∀ (x3 : Int) (e3 : x3 = idx (vv Θ v0) l0 0) (r3 : -2147483648 ≤ x3 ∧ x3 < 2147483648), (∀ (c6 : x3 < 0), Q 0 Θ) ∧ (∀ (c6 : 0 ≤ x3), Q 1 Θ)) : w2_X27_isSign ω d G l0 Θ Q := sorry
def W2_X6_has_22 (ω : AO) (d G : Nat) (l0 l1 l2 l3 l4 : Int) (g : Nat) (Θ : Th) (Q : Int → Th → Prop) : Prop := Hid (SJ2 ω yX6_has cX6_has 5 (some .boolean) d G (fun Sz Θz => (eZ Sz (q2 ω Θz Q))) 22 [(2, l0), (0, l1), (2, l2), (0, l3), (0, l4)] [] g Θ)
set_option maxHeartbeats 4000000 in
theorem s2_X6_has {ω : AO} {d G : Nat} {l0 l1 l2 : Int} {Θ : Th} {Q : Int → Th → Prop} (hB : (1 ≤ d) ∧ (kd Θ l2 = 2) ∧ (2 ≤ d) ∧ ∀ (x2 : Int) (e2 : x2 = len (vv Θ l2)) (r2 : -2147483648 ≤ x2 ∧ x2 < 2147483648), (kd Θ l0 = 20) ∧ ∀ (v7 : Int) (e7 : v7 = len (vv Θ l0)) (r7 : -2147483648 ≤ v7 ∧ v7 < 2147483648), (-2147483648 ≤ (l1 + x2) ∧ (l1 + x2) < 2147483648) ∧ (∀ (c10 : v7 < (l1 + x2)), W2_X6_has_22 ω d G l0 l1 l2 0 0 (0) Θ Q) ∧ (∀ (c10 : (l1 + x2) ≤ v7), W2_X6_has_22 ω d G l0 l1 l2 1 0 (0) Θ Q)) : w2_X6_has ω d G l0 l1 l2 Θ Q := sorry
set_option maxHeartbeats 4000000 in
theorem s2_X6_has_22 {ω : AO} {d G : Nat} {l0 l1 l2 l3 l4 : Int} {g : Nat} {Θ : Th} {Q : Int → Th → Prop} (hB : (1 ≤ d) ∧ (kd Θ l2 = 2) ∧ (2 ≤ d) ∧ (g ≤ G) ∧ ∀ (x25 : Int) (e25 : x25 = len (vv Θ l2)) (r25 : -2147483648 ≤ x25 ∧ x25 < 2147483648), (-2147483648 ≤ l4 ∧ l4 < 2147483648) ∧ (∀ (c28 : x25 ≤ l4), (l3 = 0 ∨ l3 = 1) ∧ Q l3 Θ) ∧ (∀ (c28 : l4 < x25), (-2147483648 ≤ l3 ∧ l3 < 2147483648) ∧ (∀ (c32 : l3 = 0), (l3 = 0 ∨ l3 = 1) ∧ Q l3 Θ) ∧ (∀ (c32 : ¬ l3 = 0), (0 ≤ l4 ∧ l4 < len (vv Θ l2)) ∧ (5 ≤ d) ∧ ∀ (x38 : Int) (e38 : x38 = gt (vv Θ l2) l4) (r38 : 0 ≤ x38 ∧ x38 < 65536), ∀ (x41 : Int) (e41 : x41 = if chWP x38 then 1 else 0) (r41 : x41 = 0 ∨ x41 = 1), (∀ (c44 : x41 = 0), (kd Θ l0 = 20) ∧ (0 ≤ (l1 + l4) ∧ (l1 + l4) < len (vv Θ l0)) ∧ ∀ (v84 : Int) (e84 : v84 = gt (vv Θ l0) (l1 + l4)) (r84 : 0 ≤ v84 ∧ v84 < 65536), ∀ (x88 : Int) (e88 : x88 = gt (vv Θ l2) l4) (r88 : 0 ≤ x88 ∧ x88 < 65536), (∀ (c91 : ¬ v84 = x88), W2_X6_has_22 ω d G l0 l1 l2 0 ((l4 + 1)) (g) Θ Q) ∧ (∀ (c91 : v84 = x88), W2_X6_has_22 ω d G l0 l1 l2 1 ((l4 + 1)) (g) Θ Q)) ∧ (∀ (c44 : ¬ x41 = 0), (kd Θ l0 = 20) ∧ (0 ≤ (l1 + l4) ∧ (l1 + l4) < len (vv Θ l0)) ∧ ∀ (v55 : Int) (e55 : v55 = gt (vv Θ l0) (l1 + l4)) (r55 : 0 ≤ v55 ∧ v55 < 65536), ∀ (x56 : Int) (e56 : x56 = smW v55) (r56 : -2147483648 ≤ x56 ∧ x56 < 2147483648), ∀ (x62 : Int) (e62 : x62 = gt (vv Θ l2) l4) (r62 : 0 ≤ x62 ∧ x62 < 65536), (∀ (c65 : ¬ x56 = x62), W2_X6_has_22 ω d G l0 l1 l2 0 ((l4 + 1)) (g) Θ Q) ∧ (∀ (c65 : x56 = x62), W2_X6_has_22 ω d G l0 l1 l2 1 ((l4 + 1)) (g) Θ Q))))) : W2_X6_has_22 ω d G l0 l1 l2 l3 l4 g Θ Q := sorry
/-! 59.xd.lean.txt -/
/-! Bytes -/
set_option maxRecDepth 100000
/-- a piece of one row stands in another one -/
def pcs (l : List Int) (i : Int) (m : List Int) (j n : Int) : Prop := 0 ≤ i ∧ i + n - j ≤ len l ∧ ∀ q, j ≤ q → q < n → gt l (i + q - j) = gt m q
def blB (c : Int) : Bool := decide (chBl c)
def dgB (c : Int) : Bool := decide (chDg c)
theorem blB_t {c : Int} : blB c = true ↔ chBl c := sorry
theorem blB_f {c : Int} : blB c = false ↔ ¬ chBl c := sorry
theorem dgB_t {c : Int} : dgB c = true ↔ chDg c := sorry
theorem dgB_f {c : Int} : dgB c = false ↔ ¬ chDg c := sorry
/-- a letter made small -/
def lowB (c : Int) : Int := if 65 ≤ c ∧ c ≤ 90 then c + 32 else c
def trmL (l : List Int) : List Int := sub l (scn blB l 0) (bscn blB l (scn blB l 0) (len l))
def nmB (l : List Int) : Int := (l.take 9).foldl (fun v c => 10 * v + c - 48) 0
def digB (l : List Int) : Bool := !l.isEmpty && l.all dgB
theorem u_X12_hasPiece {ω : AO} {d G : Nat} {Θ : Th} {s w i j n : Int} {l m : List Int} {Q : Int → Th → Prop} (hd : 5 ≤ d) (hs : Str Θ s l) (hw : Str Θ w m) (hi : -1000000000 ≤ i ∧ i ≤ 1000000000) (hj : 0 ≤ j ∧ j ≤ n ∧ n ≤ len m) (hn : n ≤ 1000000000) (hl : len l ≤ 1000000000)
    (hQ1 : pcs l i m j n → Q 1 Θ) (hQ0 : ¬ pcs l i m j n → Q 0 Θ) : w2_X12_hasPiece ω d G s i w j n Θ Q := sorry
theorem pcs_pAt {l m : List Int} {i : Int} : pcs l i m 0 (len m) ↔ pAt l m i := sorry
theorem u_X12_begins {ω : AO} {d G : Nat} {Θ : Th} {s w i : Int} {l m : List Int} {Q : Int → Th → Prop} (hd : 6 ≤ d) (hs : Str Θ s l) (hw : Str Θ w m) (hi : -1000000000 ≤ i ∧ i ≤ 1000000000) (hm : len m ≤ 1000000000) (hl : len l ≤ 1000000000)
    (hQ1 : pAt l m i → Q 1 Θ) (hQ0 : ¬ pAt l m i → Q 0 Θ) : w2_X12_begins ω d G s w i Θ Q := sorry
theorem cmpL_drop {l m : List Int} {k : Int} (h0 : 0 ≤ k) (h1 : k < len l) (h2 : k < len m) : cmpL (l.drop k.toNat) (m.drop k.toNat) = if gt l k = gt m k then cmpL (l.drop (k + 1).toNat) (m.drop (k + 1).toNat) else gt l k - gt m k := by
  rw [drop_gt ⟨h0, h1⟩, drop_gt ⟨h0, h2⟩]; rfl
theorem cmpL_dl {l m : List Int} {k : Int} (h0 : 0 ≤ k) (h1 : len l ≤ k ∨ len m ≤ k) (h2 : k ≤ len l) (h3 : k ≤ len m) : cmpL (l.drop k.toNat) (m.drop k.toNat) = len l - len m := sorry
theorem u_X12_order {ω : AO} {d G : Nat} {Θ : Th} {s w : Int} {l m : List Int} {Q : Int → Th → Prop} (hd : 5 ≤ d) (hs : Str Θ s l) (hw : Str Θ w m) (hm : len m ≤ 1000000000) (hl : len l ≤ 1000000000) (hQ : Q (cmpL l m) Θ) : w2_X12_order ω d G s w Θ Q := sorry
/-- a text as it is built: a builder that holds m, its gas -/
def BLD (Θ : Th) (b : Int) (m : List Int) (g0 g : Nat) : Prop := ∃ c e, xo Θ b = (1, m, c, e) ∧ BI m c e g0 g ∧ ¬ fz Θ b
theorem BLD.kd {Θ : Th} {b : Int} {m : List Int} {g0 g : Nat} (h : BLD Θ b m g0 g) : kd Θ b = 1 := by obtain ⟨c, e, h, -⟩ := h; exact kd_of h
theorem BLD.vl {Θ : Th} {b : Int} {m : List Int} {g0 g : Nat} (h : BLD Θ b m g0 g) : vv Θ b = m := by obtain ⟨c, e, h, -⟩ := h; exact vl_of h
theorem BLD.nf {Θ : Th} {b : Int} {m : List Int} {g0 g : Nat} (h : BLD Θ b m g0 g) : ¬ fz Θ b := by obtain ⟨c, e, -, -, h⟩ := h; exact h
theorem BLD.le {Θ : Th} {b : Int} {m : List Int} {g0 g : Nat} (h : BLD Θ b m g0 g) : (g : Int) ≤ g0 + 4 * len m + 16 ∧ g0 ≤ g := by obtain ⟨c, e, -, h, -⟩ := h; exact h.le
theorem BLD.cap {Θ : Th} {b : Int} {m : List Int} {g0 g : Nat} (h : BLD Θ b m g0 g) : bC (cp Θ b) (len (vv Θ b) + 1) ≤ 2 * len m + 20 := sorry
theorem BLD.app {Θ Θ' : Th} {b x : Int} {m : List Int} {g0 g : Nat} (h : BLD Θ b m g0 g) (t : Θ' = uq Θ b (1, vv Θ b ++ [x], bC (cp Θ b) (len (vv Θ b) + 1), if x ≤ 255 then cx Θ b else 1)) :
    BLD Θ' b (m ++ [x]) g0 (g + (bK (bC (cp Θ b) (len (vv Θ b) + 1)) (if x ≤ 255 then cx Θ b else 1) - bK (cp Θ b) (cx Θ b)).toNat) := sorry
/-- the gas of the next character fits -/
theorem BLD.gas {Θ : Th} {b x : Int} {m : List Int} {g0 g G : Nat} (h : BLD Θ b m g0 g) (hG : (g0 : Int) + 4 * (len m + 1) + 16 ≤ G) : g + (bK (bC (cp Θ b) (len (vv Θ b) + 1)) (if x ≤ 255 then cx Θ b else 1) - bK (cp Θ b) (cx Θ b)).toNat ≤ G := sorry
theorem BLD.keep {Θ Θ' : Th} {b : Int} {m : List Int} {g0 g : Nat} (h : BLD Θ b m g0 g) (e : xo Θ' b = xo Θ b) (hf : ¬ fz Θ' b) : BLD Θ' b m g0 g := sorry
theorem BLD.new {Θ Θ' : Th} {b : Int} {g : Nat} (hf : ¬ fz Θ b) (t : Θ' = uq Θ b (1, [], 16, 0)) : BLD Θ' b [] g g := ⟨16, 0, by rw [t, xo_upA], BI.new, by rw [t]; exact hf⟩
/-- Ints, Text as they are built -/
def ROW (k : Nat) (c0 : Int) (Θ : Th) (b : Int) (m : List Int) (g0 g : Nat) : Prop := ∃ c e, xo Θ b = (k, m, c, e) ∧ RI c0 m c g0 g ∧ ¬ fz Θ b
section ROWX
variable {k : Nat} {c0 : Int} {Θ Θ' : Th} {b x : Int} {m : List Int} {g0 g G : Nat}
theorem ROW.kd (h : ROW k c0 Θ b m g0 g) : kd Θ b = k := by obtain ⟨c, e, h, -⟩ := h; exact kd_of h
theorem ROW.vl (h : ROW k c0 Θ b m g0 g) : vv Θ b = m := by obtain ⟨c, e, h, -⟩ := h; exact vl_of h
theorem ROW.nf (h : ROW k c0 Θ b m g0 g) : ¬ fz Θ b := by obtain ⟨c, e, -, -, h⟩ := h; exact h
theorem ROW.le (h : ROW k c0 Θ b m g0 g) : (g : Int) ≤ g0 + 2 * len m ∧ g0 ≤ g := by obtain ⟨c, e, -, h, -⟩ := h; exact h.le
theorem ROW.cap (h : ROW k c0 Θ b m g0 g) : rwC (cp Θ b) (len (vv Θ b)) ≤ c0 + 2 * len m := sorry
theorem ROW.app (h : ROW k c0 Θ b m g0 g) (t : Θ' = uq Θ b (k, vv Θ b ++ [x], rwC (cp Θ b) (len (vv Θ b)), cx Θ b)) : ROW k c0 Θ' b (m ++ [x]) g0 (g + (rwK (cp Θ b) (len (vv Θ b))).toNat) := sorry
theorem ROW.gas (h : ROW k c0 Θ b m g0 g) (hG : (g0 : Int) + 2 * (len m + 1) ≤ G) : g + (rwK (cp Θ b) (len (vv Θ b))).toNat ≤ G := sorry
theorem ROW.keep (h : ROW k c0 Θ b m g0 g) (e : xo Θ' b = xo Θ b) (hf : ¬ fz Θ' b) : ROW k c0 Θ' b m g0 g := sorry
theorem ROW.new (hc : 2 ≤ c0) (hf : ¬ fz Θ b) (t : Θ' = uq Θ b (k, [], c0, 0)) : ROW k c0 Θ' b [] g g := sorry
end ROWX
theorem xo_kd {Θ : Th} {a : Int} {c : Cl} (h : xo Θ a = c) (h0 : 0 < c.1) : 0 < kd Θ a := by rw [kd_of h]; exact h0
theorem orI32 {c : Int} (h : chLt c) : orI c 32 % 65536 = lowB c := sorry
theorem lowB_no {c : Int} (h : ¬ chLt c) : lowB c = c := sorry
theorem take_snoc {l : List Int} {k : Int} (h : 0 ≤ k ∧ k < len l) : l.take (k + 1).toNat = l.take k.toNat ++ [gt l k] := sorry
theorem take_all {l : List Int} {k : Int} (h : len l ≤ k) : l.take k.toNat = l := sorry
theorem len_map {l : List Int} {f : Int → Int} : len (l.map f) = len l := by unfold len; rw [List.length_map]
theorem gt_map {l : List Int} {f : Int → Int} {k : Int} (h : 0 ≤ k ∧ k < len l) : gt (l.map f) k = f (gt l k) := sorry
theorem u_X12_small {ω : AO} {d G : Nat} {Θ : Th} {s : Int} {l : List Int} {Q : Int → Th → Prop} (hd : 9 ≤ d) (hs : Str Θ s l) (hl : len l ≤ 1000000) (hG : 5 * len l + 30 ≤ (G : Int)) (hQ : ∀ r Θ', NewS Θ Θ' r (l.map lowB) → Q r Θ') : w2_X12_small ω d G s Θ Q := sorry
theorem bscn_le {p : Int → Bool} {l : List Int} : ∀ (N : Nat) (lo hi : Int), (hi - lo).toNat = N → 0 ≤ lo → lo ≤ hi → hi ≤ len l → lo ≤ bscn p l lo hi ∧ bscn p l lo hi ≤ hi := sorry
/-- a row of blanks alone has no wide characters -/
theorem blank_wide {l : List Int} (h : scn blB l 0 = len l) : wide l = 0 := sorry
theorem u_X12_trim {ω : AO} {d G : Nat} {Θ : Th} {s : Int} {l : List Int} {Q : Int → Th → Prop} (hd : 7 ≤ d) (hs : Str Θ s l) (hl : len l ≤ 100000000) (hG : len l + 5 ≤ (G : Int)) (hQ : ∀ r Θ', NewS Θ Θ' r (trmL l) → Q r Θ') : w2_X12_trim ω d G s Θ Q := sorry
theorem u_X12_areDigits {ω : AO} {d G : Nat} {Θ : Th} {s : Int} {l : List Int} {Q : Int → Th → Prop} (hd : 5 ≤ d) (hs : Str Θ s l) (hl : len l ≤ 100000000) (hQ : ∀ x, x = (if digB l then 1 else 0) → Q x Θ) : w2_X12_areDigits ω d G s Θ Q := sorry
/-- a number of digits, nine of them at most -/
theorem nm_step {l : List Int} {k : Int} (h : 0 ≤ k ∧ k < len l ∧ k < 9) : (l.take (k + 1).toNat).foldl (fun v c => 10 * v + c - 48) 0 = 10 * (l.take k.toNat).foldl (fun v c => 10 * v + c - 48) 0 + gt l k - 48 := by
  rw [take_snoc ⟨h.1, h.2.1⟩, List.foldl_append]; rfl
theorem nm_bnd {l : List Int} (hl : l.all dgB = true) : ∀ (n : Nat) (k : Int), k.toNat = n → 0 ≤ k → k ≤ len l → 0 ≤ (l.take k.toNat).foldl (fun v c => 10 * v + c - 48) 0 ∧ (l.take k.toNat).foldl (fun v c => 10 * v + c - 48) 0 < 10 ^ k.toNat := sorry
theorem u_X12_number {ω : AO} {d G : Nat} {Θ : Th} {s : Int} {l : List Int} {Q : Int → Th → Prop} (hd : 5 ≤ d) (hs : Str Θ s l) (hl : len l ≤ 100000000) (ha : l.all dgB = true) (hQ : Q (nmB l) Θ) : w2_X12_number ω d G s Θ Q := sorry
theorem u_X12_ints {ω : AO} {d G : Nat} {Θ : Th} {s : Int} {l : List Int} {Q : Int → Th → Prop} (hd : 5 ≤ d) (hs : Str Θ s l) (hl : len l ≤ 1000000) (hG : 2 * len l + 10 ≤ (G : Int)) (hQ : ∀ r Θ' g, ROW 19 8 Θ' r l 4 g → kd Θ r = 0 → Gr Θ Θ' → Q r Θ') : w2_X12_ints ω d G s Θ Q := sorry
theorem list_ext {a b : List Int} (h : len a = len b) (h2 : ∀ k, 0 ≤ k → k < len a → gt a k = gt b k) : a = b := sorry
/-- whether a row stands in another one at a place -/
def pAtB (l m : List Int) (i : Int) : Bool := decide (0 ≤ i ∧ i + len m ≤ len l) && decide (sub l i (i + len m) = m)
theorem pAt_B {l m : List Int} {i : Int} : pAt l m i ↔ pAtB l m i = true := sorry
theorem pAtB_f {l m : List Int} {i : Int} (h : ¬ pAt l m i) : pAtB l m i = false := sorry
theorem v_X12_begins {ω : AO} {d G : Nat} {Θ : Th} {s w i : Int} {l m : List Int} {Q : Int → Th → Prop} (hd : 6 ≤ d) (hs : Str Θ s l) (hw : Str Θ w m) (hi : -1000000000 ≤ i ∧ i ≤ 1000000000) (hm : len m ≤ 1000000000) (hl : len l ≤ 1000000000)
    (hQ : ∀ x, x = (if pAtB l m i then 1 else 0) → Q x Θ) : w2_X12_begins ω d G s w i Θ Q := sorry
theorem pcs_sub {l m : List Int} {i j n : Int} (h : 0 ≤ j ∧ j ≤ n ∧ n ≤ len m) : pcs l i m j n ↔ pAtB l (sub m j n) i = true := sorry
/-- whether bytes from a place on fit a pattern with one * -/
def fitF (p l : List Int) (f : Int) : Bool :=
  if idx p 42 0 < 0 then decide (len l - f = len p) && pAtB l p f
  else decide (len p - 1 ≤ len l - f) && (pAtB l (sub p 0 (idx p 42 0)) f && pAtB l (sub p (idx p 42 0 + 1) (len p)) (len l - (len p - idx p 42 0 - 1)))
/-- the sixty-four letters -/
def LET : List Int := [65, 66, 67, 68, 69, 70, 71, 72, 73, 74, 75, 76, 77, 78, 79, 80, 81, 82, 83, 84, 85, 86, 87, 88, 89, 90, 97, 98, 99, 100, 101, 102, 103, 104, 105, 106, 107, 108, 109, 110, 111, 112, 113, 114, 115, 116, 117, 118, 119, 120, 121, 122, 48, 49, 50, 51, 52, 53, 54, 55, 56, 57, 43, 47]
def letF (c : Int) : Int := if c < 0 then -1 else idx LET (c % 65536) 0
theorem u_X1_letter {ω : AO} {d G : Nat} {Θ : Th} {c : Int} {Q : Int → Th → Prop} (hd : 7 ≤ d) (hc : inI c) (hQ : ∀ x, x = letF c → Q x Θ) : w2_X1_letter ω d G c Θ Q := sorry
def chSg : List Int := [60, 62, 58, 59, 64, 44, 46, 41, 93, 92]
theorem u_X27_isSign {ω : AO} {d G : Nat} {Θ : Th} {c : Int} {Q : Int → Th → Prop} (hd : 7 ≤ d) (hc : 0 ≤ c ∧ c < 65536) (hQ : ∀ x, x = (if 0 ≤ idx chSg c 0 then 1 else 0) → Q x Θ) : w2_X27_isSign ω d G c Θ Q := sorry
/-- the byte of two digits at a place -/
def hbF (l : List Int) (k : Int) : Int := if hxF (atI l k) < 0 ∨ hxF (atI l (k + 1)) < 0 then -1 else 16 * hxF (atI l k) + hxF (atI l (k + 1))
theorem hxF_in (c : Int) : -1 ≤ hxF c ∧ hxF c < 16 := sorry
theorem u_X1_hexByte {ω : AO} {d G : Nat} {Θ : Th} {r k : Int} {Q : Int → Th → Prop} (hd : 2 ≤ d) (hr : kd Θ r = 19) (hk : -1000000 ≤ k ∧ k ≤ 1000000000) (hQ : ∀ x, x = hbF (vv Θ r) k → Q x Θ) : w2_X1_hexByte ω d G r k Θ Q := sorry
theorem u_X12_fitsFrom {ω : AO} {d G : Nat} {Θ : Th} {p s f : Int} {l m : List Int} {Q : Int → Th → Prop} (hd : 8 ≤ d) (hp : Str Θ p m) (hs : Str Θ s l) (hf : 0 ≤ f ∧ f ≤ 1000) (hm : len m ≤ 100000000) (hl : len l ≤ 100000000)
    (hQ : ∀ x, x = (if fitF m l f then 1 else 0) → Q x Θ) : w2_X12_fitsFrom ω d G p s f Θ Q := sorry
theorem u_X12_fits {ω : AO} {d G : Nat} {Θ : Th} {p s : Int} {l m : List Int} {Q : Int → Th → Prop} (hd : 9 ≤ d) (hp : Str Θ p m) (hs : Str Θ s l) (hm : len m ≤ 100000000) (hl : len l ≤ 100000000)
    (hQ : ∀ x, x = (if fitF m l 0 then 1 else 0) → Q x Θ) : w2_X12_fits ω d G p s Θ Q := sorry
/-- whether a word of small letters stands, great or small -/
def hasR : List Int → List Int → Bool
  | _, [] => true
  | [], _ :: _ => false
  | a :: l, b :: m => decide ((if chWP b then smW a else a) = b) && hasR l m
def hasT (l : List Int) (i : Int) (m : List Int) : Bool := decide (i + len m ≤ len l) && hasR (l.drop i.toNat) m
theorem u_X6_has {ω : AO} {d G : Nat} {Θ : Th} {t s i : Int} {m : List Int} {Q : Int → Th → Prop} (hd : 5 ≤ d) (ht : kd Θ t = 20) (hs : Str Θ s m) (hi : 0 ≤ i ∧ i ≤ 1000000) (hm : len m ≤ 100000000) (hQ : ∀ x, x = (if hasT (vv Θ t) i m then 1 else 0) → Q x Θ) : w2_X6_has ω d G t i s Θ Q := sorry
/-! 59.y1.lean.txt -/
/-! characters: what codings and charsets make, on rows of numbers -/
def six (c : Int) : Int := if 65 ≤ c ∧ c ≤ 90 then c - 65 else if 97 ≤ c ∧ c ≤ 122 then c - 97 + 26 else if 48 ≤ c ∧ c ≤ 57 then c - 48 + 52 else if c = 43 then 62 else if c = 47 then 63 else -1
def hexv (c : Int) : Int := if 48 ≤ c ∧ c ≤ 57 then c - 48 else if 65 ≤ c ∧ c ≤ 70 then c - 65 + 10 else if 97 ≤ c ∧ c ≤ 102 then c - 97 + 10 else -1
theorem six_in (c : Int) : -1 ≤ six c ∧ six c < 64 := sorry
theorem hexv_in (c : Int) : -1 ≤ hexv c ∧ hexv c < 16 := sorry
/-- base64: bits that wait, how many -/
def unbase : Int → Int → List Int → List Int
  | _, _, [] => []
  | b, n, c :: cs => if c = 61 then [] else if six c = -1 then unbase b n cs else
    if n + 6 ≤ 7 then unbase (orI (b * 64) (six c) % 65536) (n + 6) cs
    else shrI (orI (b * 64) (six c) % 65536) (n + 6 - 8) % 256 :: unbase (orI (b * 64) (six c) % 65536) (n + 6 - 8) cs
theorem unbase_len : ∀ (b n : Int) (l : List Int), (unbase b n l).length ≤ l.length := sorry
theorem six_u {v : Int} (h : -128 ≤ v ∧ v < 128) : six (v % 256) = six v := sorry
theorem hexv_u {v : Int} (h : -128 ≤ v ∧ v < 128) : hexv (v % 256) = hexv v := sorry
theorem unbase_end (b n : Int) (f : Int → Int) (k : Int) {m : Int} (h : m ≤ 0) : unbase b n (by8 f k m) = [] := by rw [by8_0 f k h]; rfl
theorem unbase_stop (b n : Int) {f : Int → Int} {k m : Int} (h : 0 < m) (hv : f k = 61) : unbase b n (by8 f k m) = [] := sorry
theorem unbase_skip (b n : Int) {f : Int → Int} {k m v : Int} (hv : v = f k) (hr : -128 ≤ v ∧ v < 128) (h : 0 < m) (h1 : ¬ v = 61) (h2 : six v = -1) : unbase b n (by8 f k m) = unbase b n (by8 f (k + 1) (m - 1)) := sorry
theorem unbase_more (b n : Int) {f : Int → Int} {k m v : Int} (hv : v = f k) (hr : -128 ≤ v ∧ v < 128) (h : 0 < m) (h1 : ¬ v = 61) (h2 : ¬ six v = -1) (h3 : n + 6 ≤ 7) : unbase b n (by8 f k m) = unbase (orI (b * 64) (six v) % 65536) (n + 6) (by8 f (k + 1) (m - 1)) := sorry
theorem unbase_out (b n : Int) {f : Int → Int} {k m v : Int} (hv : v = f k) (hr : -128 ≤ v ∧ v < 128) (h : 0 < m) (h1 : ¬ v = 61) (h2 : ¬ six v = -1) (h3 : ¬ n + 6 ≤ 7) : unbase b n (by8 f k m) = shrI (orI (b * 64) (six v) % 65536) (n + 6 - 8) % 256 :: unbase (orI (b * 64) (six v) % 65536) (n + 6 - 8) (by8 f (k + 1) (m - 1)) := sorry
/-- a = at a place with two digits behind it, ahead of t: that byte; -1 -/
def toldF (f : Int → Int) (k t : Int) : Int := if t ≤ k + 2 then -1 else if hexv (f (k + 1)) = -1 ∨ hexv (f (k + 2)) = -1 then -1 else 16 * hexv (f (k + 1)) + hexv (f (k + 2))
/-- where a line that begins at a place ends -/
def isLE (f : Int → Int) (a t e : Int) : Prop := a ≤ e ∧ e ≤ t ∧ (∀ j, a ≤ j → j < e → f j ≠ 10) ∧ (e < t → f e = 10)
theorem isLE_fun {f : Int → Int} {a t e e' : Int} (h : isLE f a t e) (h' : isLE f a t e') : e = e' := sorry
def lat9 (b : Int) : Int := if b = 164 then 8364 else if b = 166 then 352 else if b = 168 then 353 else if b = 180 then 381 else if b = 184 then 382 else if b = 188 then 338 else if b = 189 then 339 else if b = 190 then 376 else b
/-- a byte of a charset of one byte each -/
def chr1 (cs b : Int) : Int := if cs = 0 then (if b < 128 then b else 65533) else if cs = 1 then b else if cs = 2 then lat9 b else if cs = 3 then (if 127 < b ∧ b < 160 then cl_cWindows.getD (b - 128).toNat 0 else b) else
  if b < 128 then b else if b = 163 then 1105 else if b = 179 then 1025 else if b < 192 then 65533 else if b < 224 then cl_cKoi.getD (b - 192).toNat 0 else cl_cKoi.getD (b - 224).toNat 0 - 32
def isLow (u : Int) : Prop := 56320 ≤ u ∧ u ≤ 57343
def isHigh (u : Int) : Prop := 55296 ≤ u ∧ u ≤ 56319
/-- UTF8: how many bytes follow a first one -/
def u8more (c : Int) : Int := if 194 ≤ c ∧ c ≤ 223 then 1 else if 224 ≤ c ∧ c ≤ 239 then 2 else if 240 ≤ c ∧ c ≤ 244 then 3 else 0
def u8v (c : Int) : Int := if u8more c = 1 then c % 32 else if u8more c = 2 then c % 16 else c % 8
def u8fitB (c n b : Int) : Bool := if n = 0 then decide ((if c = 224 then 160 else if c = 240 then 144 else 128) ≤ b ∧ b ≤ (if c = 237 then 159 else if c = 244 then 143 else 191)) else decide (128 ≤ b ∧ b ≤ 191)
/-- goes along the bytes that follow: how many, the value, what is left -/
def u8go (c mo : Int) : Int → Int → List Int → Int × Int × List Int
  | n, v, [] => (n, v, [])
  | n, v, b :: r => if decide (n < mo) && u8fitB c n b then u8go c mo (n + 1) (orI (v * 64) (b % 64)) r else (n, v, b :: r)
theorem u8go_len (c mo : Int) : ∀ (n v : Int) (l : List Int), (u8go c mo n v l).2.2.length ≤ l.length := sorry
/-- the first character, what is left -/
def takeU8 (c : Int) (r : List Int) : Int × List Int :=
  if c < 128 then (c, r) else
  (if 0 < u8more c ∧ (u8go c (u8more c) 0 (u8v c) r).1 = u8more c then (u8go c (u8more c) 0 (u8v c) r).2.1 else 65533, (u8go c (u8more c) 0 (u8v c) r).2.2)
theorem takeU8_len (c : Int) (r : List Int) : (takeU8 c r).2.length ≤ r.length := sorry
def utf8 : List Int → List Int
  | [] => []
  | c :: r => (takeU8 c r).1 :: utf8 (takeU8 c r).2
termination_by l => l.length
decreasing_by
  have := takeU8_len c r
  simp only [List.length_cons]
  omega
theorem utf8_len : ∀ (N : Nat) (l : List Int), l.length ≤ N → (utf8 l).length ≤ l.length := sorry
theorem u8go_end (c mo n v : Int) (f : Int → Int) (k : Int) {m : Int} (h : m ≤ 0) : u8go c mo n v (by8 f k m) = (n, v, by8 f k m) := by rw [by8_0 f k h]; rfl
theorem u8go_stop {c mo n v : Int} {f : Int → Int} {k m : Int} (h : 0 < m) (hc : ¬ (n < mo ∧ u8fitB c n (f k % 256) = true)) : u8go c mo n v (by8 f k m) = (n, v, by8 f k m) := sorry
theorem u8go_step {c mo n v : Int} {f : Int → Int} {k m : Int} (h : 0 < m) (h1 : n < mo) (h2 : u8fitB c n (f k % 256) = true) : u8go c mo n v (by8 f k m) = u8go c mo (n + 1) (orI (v * 64) (f k % 256 % 64)) (by8 f (k + 1) (m - 1)) := sorry
theorem u8fit_0 (c b : Int) : u8fitB c 0 b = true ↔ (if c = 224 then 160 else if c = 240 then 144 else 128) ≤ b ∧ b ≤ (if c = 237 then 159 else if c = 244 then 143 else 191) := sorry
theorem u8fit_n (c b : Int) {n : Int} (h : ¬ n = 0) : u8fitB c n b = true ↔ 128 ≤ b ∧ b ≤ 191 := sorry
theorem u8fit_m (c n : Int) : u8fitB c n (-1) = false := sorry
theorem u8_back {c mo n v p sz x : Int} {f : Int → Int} (hx : x = if p < sz then f p % 256 else -1) (hn : n < mo) (hf : u8fitB c n x = true) : p < sz ∧ u8go c mo n v (by8 f p (sz - p)) = u8go c mo (n + 1) (orI (v * 64) (x % 64)) (by8 f (p + 1) (sz - (p + 1))) := sorry
theorem u8_exit {c mo n v p sz x : Int} {f : Int → Int} (hx : x = if p < sz then f p % 256 else -1) (hc : ¬ (n < mo ∧ u8fitB c n x = true)) : u8go c mo n v (by8 f p (sz - p)) = (n, v, by8 f p (sz - p)) := sorry
theorem u8_exit0 {c mo n v p sz : Int} {f : Int → Int} (hn : mo ≤ n) : u8go c mo n v (by8 f p (sz - p)) = (n, v, by8 f p (sz - p)) := sorry
theorem take_lo {c : Int} (r : List Int) (h : c < 128) : takeU8 c r = (c, r) := by unfold takeU8; rw [if_pos h]
theorem take_hi {c n v : Int} {r l : List Int} (h : 128 ≤ c) (hg : (n, v, l) = u8go c (u8more c) 0 (u8v c) r) : takeU8 c r = (if 0 < u8more c ∧ n = u8more c then v else 65533, l) := sorry
/-! 59.y2.lean.txt -/
/-! characters: units of sixteen bits, UTF7, whole charsets -/
/-- a unit of 16 bits comes: what it gives, what waits then -/
def ust (p u : Int) : List Int × Int :=
  if 0 < p ∧ 56320 ≤ u ∧ u ≤ 57343 then ([65536 + (p - 55296) * 1024 + u - 56320], 0)
  else if 55296 ≤ u ∧ u ≤ 56319 then (if 0 < p then [65533] else [], u)
  else ((if 0 < p then [65533] else []) ++ [if 56320 ≤ u ∧ u ≤ 57343 then 65533 else u], 0)
def uend (p : Int) : List Int := if 0 < p then [65533] else []
def units : Int → List Int → List Int
  | p, [] => uend p
  | p, u :: r => (ust p u).1 ++ units (ust p u).2 r
/-- two bytes each -/
def pairUp (le : Bool) : List Int → List Int
  | a :: b :: r => (if le then orI (b * 256) a else orI (a * 256) b) :: pairUp le r
  | _ => []
def odd1 : List Int → List Int
  | [] => []
  | [_] => [65533]
  | _ :: _ :: r => odd1 r
def readU (le : Bool) (l : List Int) : List Int := units 0 (pairUp le l) ++ odd1 l
theorem ust_p (p u : Int) : 0 ≤ (ust p u).2 ∧ (ust p u).2 < 65536 := sorry
theorem ust_len (p u : Int) : ((ust p u).1.length : Int) + (if 0 < (ust p u).2 then 1 else 0) ≤ (if 0 < p then 1 else 0) + 1 := sorry
/-! 60.ca.lean.txt -/
/-! segments -/
set_option maxRecDepth 100000
def w2_X31_init (ω : AO) (d G : Nat) (l0 : Int) (Θ : Th) (Q : Th → Prop) : Prop := Hid (∀ S, bel S → R2 ω S Θ → Ctr ω yX31_init cX31_init 1 none d G [(2, l0)] S (eU S (q2U ω Θ Q)))
def w2_X37_init (ω : AO) (d G : Nat) (l0 : Int) (Θ : Th) (Q : Th → Prop) : Prop := Hid (∀ S, bel S → R2 ω S Θ → Ctr ω yX37_init cX37_init 1 none d G [(2, l0)] S (eU S (q2U ω Θ Q)))
def w2_X32_init (ω : AO) (d G : Nat) (l0 : Int) (Θ : Th) (Q : Th → Prop) : Prop := Hid (∀ S, bel S → R2 ω S Θ → Ctr ω yX32_init cX32_init 1 none d G [(2, l0)] S (eU S (q2U ω Θ Q)))
def w2_X33_init (ω : AO) (d G : Nat) (l0 l1 : Int) (Θ : Th) (Q : Th → Prop) : Prop := Hid (∀ S, bel S → R2 ω S Θ → Ctr ω yX33_init cX33_init 2 none d G [(2, l0), (0, l1)] S (eU S (q2U ω Θ Q)))
def w2_X34_init (ω : AO) (d G : Nat) (l0 : Int) (Θ : Th) (Q : Th → Prop) : Prop := Hid (∀ S, bel S → R2 ω S Θ → Ctr ω yX34_init cX34_init 1 none d G [(2, l0)] S (eU S (q2U ω Θ Q)))
def w2_X38_init (ω : AO) (d G : Nat) (l0 : Int) (Θ : Th) (Q : Th → Prop) : Prop := Hid (∀ S, bel S → R2 ω S Θ → Ctr ω yX38_init cX38_init 1 none d G [(2, l0)] S (eU S (q2U ω Θ Q)))
def w2_X40_init (ω : AO) (d G : Nat) (l0 : Int) (Θ : Th) (Q : Th → Prop) : Prop := Hid (∀ S, bel S → R2 ω S Θ → Ctr ω yX40_init cX40_init 1 none d G [(2, l0)] S (eU S (q2U ω Θ Q)))
def w2_X41_init (ω : AO) (d G : Nat) (l0 : Int) (Θ : Th) (Q : Th → Prop) : Prop := Hid (∀ S, bel S → R2 ω S Θ → Ctr ω yX41_init cX41_init 1 none d G [(2, l0)] S (eU S (q2U ω Θ Q)))
def w2_X42_init (ω : AO) (d G : Nat) (l0 : Int) (Θ : Th) (Q : Th → Prop) : Prop := Hid (∀ S, bel S → R2 ω S Θ → Ctr ω yX42_init cX42_init 1 none d G [(2, l0)] S (eU S (q2U ω Θ Q)))
def w2_X36_init (ω : AO) (d G : Nat) (l0 l1 : Int) (Θ : Th) (Q : Th → Prop) : Prop := Hid (∀ S, bel S → R2 ω S Θ → Ctr ω yX36_init cX36_init 2 none d G [(2, l0), (2, l1)] S (eU S (q2U ω Θ Q)))
def w2_X36_end (ω : AO) (d G : Nat) (l0 : Int) (Θ : Th) (Q : Th → Prop) : Prop := Hid (∀ S, bel S → R2 ω S Θ → Ctr ω yX36_end cX36_end 1 none d G [(2, l0)] S (eU S (q2U ω Θ Q)))
def w2_X36_add (ω : AO) (d G : Nat) (l0 l1 : Int) (Θ : Th) (Q : Th → Prop) : Prop := Hid (∀ S, bel S → R2 ω S Θ → Ctr ω yX36_add cX36_add 3 none d G [(2, l0), (0, l1)] S (eU S (q2U ω Θ Q)))
def w2_X35_init (ω : AO) (d G : Nat) (l0 l1 : Int) (Θ : Th) (Q : Th → Prop) : Prop := Hid (∀ S, bel S → R2 ω S Θ → Ctr ω yX35_init cX35_init 3 none d G [(2, l0), (0, l1)] S (eU S (q2U ω Θ Q)))
def w2_X35_read (ω : AO) (d G : Nat) (l0 l1 l2 : Int) (Θ : Th) (Q : Th → Prop) : Prop := Hid (∀ S, bel S → R2 ω S Θ → Ctr ω yX35_read cX35_read 4 none d G [(2, l0), (2, l1), (2, l2)] S (eU S (q2U ω Θ Q)))
def w2_X32_read (ω : AO) (d G : Nat) (l0 l1 l2 : Int) (Θ : Th) (Q : Th → Prop) : Prop := Hid (∀ S, bel S → R2 ω S Θ → Ctr ω yX32_read cX32_read 8 none d G [(2, l0), (2, l1), (2, l2)] S (eU S (q2U ω Θ Q)))
def w2_X33_read (ω : AO) (d G : Nat) (l0 l1 l2 : Int) (Θ : Th) (Q : Th → Prop) : Prop := Hid (∀ S, bel S → R2 ω S Θ → Ctr ω yX33_read cX33_read 8 none d G [(2, l0), (2, l1), (2, l2)] S (eU S (q2U ω Θ Q)))
def w2_X34_run (ω : AO) (d G : Nat) (l0 l1 l2 : Int) (Θ : Th) (Q : Int → Th → Prop) : Prop := Hid (∀ S, bel S → R2 ω S Θ → Ctr ω yX34_run cX34_run 7 (some .int) d G [(2, l0), (0, l1), (2, l2)] S (eI S (q2 ω Θ Q)))
def w2_X34_read (ω : AO) (d G : Nat) (l0 l1 l2 : Int) (Θ : Th) (Q : Th → Prop) : Prop := Hid (∀ S, bel S → R2 ω S Θ → Ctr ω yX34_read cX34_read 5 none d G [(2, l0), (2, l1), (2, l2)] S (eU S (q2U ω Θ Q)))
def w2_X38_read (ω : AO) (d G : Nat) (l0 l1 l2 : Int) (Θ : Th) (Q : Th → Prop) : Prop := Hid (∀ S, bel S → R2 ω S Θ → Ctr ω yX38_read cX38_read 7 none d G [(2, l0), (2, l1), (2, l2)] S (eU S (q2U ω Θ Q)))
def w2_X42_is (ω : AO) (d G : Nat) (l0 l1 l2 l3 : Int) (Θ : Th) (Q : Int → Th → Prop) : Prop := Hid (∀ S, bel S → R2 ω S Θ → Ctr ω yX42_is cX42_is 5 (some .boolean) d G [(2, l0), (0, l1), (0, l2), (2, l3)] S (eZ S (q2 ω Θ Q)))
def w2_X42_line (ω : AO) (d G : Nat) (l0 l1 l2 l3 l4 l5 : Int) (Θ : Th) (Q : Int → Th → Prop) : Prop := Hid (∀ S, bel S → R2 ω S Θ → Ctr ω yX42_line cX42_line 10 (some .boolean) d G [(2, l0), (2, l1), (0, l2), (0, l3), (0, l4), (2, l5)] S (eZ S (q2 ω Θ Q)))
def w2_X41_line (ω : AO) (d G : Nat) (l0 l1 l2 l3 l4 l5 : Int) (Θ : Th) (Q : Int → Th → Prop) : Prop := Hid (∀ S, bel S → R2 ω S Θ → Ctr ω yX41_line cX41_line 10 (some .boolean) d G [(2, l0), (2, l1), (0, l2), (0, l3), (0, l4), (2, l5)] S (eZ S (q2 ω Θ Q)))
def w2_X40_read (ω : AO) (d G : Nat) (l0 l1 l2 : Int) (Θ : Th) (Q : Th → Prop) : Prop := Hid (∀ S, bel S → R2 ω S Θ → Ctr ω yX40_read cX40_read 7 none d G [(2, l0), (2, l1), (2, l2)] S (eU S (q2U ω Θ Q)))
theorem ln_X32_3 : NLk RX32 3 yX31_init cX31_init 1 none 0 := sorry
theorem ln_X33_3 : NLk RX33 3 yX31_init cX31_init 1 none 0 := sorry
theorem lf_X33_9_44 : FLk RX33 9 44 0 .int true := sorry
theorem ln_X34_3 : NLk RX34 3 yX31_init cX31_init 1 none 0 := sorry
theorem ln_X38_1 : NLk RX38 1 yX37_init cX37_init 1 none 0 := sorry
theorem ln_X40_1 : NLk RX40 1 yX37_init cX37_init 1 none 0 := sorry
theorem ln_X41_3 : NLk RX41 3 yX40_init cX40_init 1 none 0 := sorry
theorem ln_X42_1 : NLk RX42 1 yX40_init cX40_init 1 none 0 := sorry
theorem lf_X36_9_46 : FLk RX36 9 46 1 .int false := sorry
theorem lf_X36_15_46 : FLk RX36 15 46 0 (.object "MailWorks$Ints") true := sorry
theorem lr_X36_9_46 : FLkR RX36 9 46 1 .int := sorry
theorem lr_X36_15_46 : FLkR RX36 15 46 0 (.object "MailWorks$Ints") := sorry
theorem lm_X36_23 : VLk RX36 23 19 yX5_add cX5_add 2 none 1 := sorry
theorem lm_X36_29 : VLk RX36 29 46 yX36_end cX36_end 1 none 0 := sorry
theorem ln_X35_3 : NLk RX35 3 yX31_init cX31_init 1 none 0 := sorry
theorem lf_X35_9_45 : FLk RX35 9 45 0 (.array .int) true := sorry
theorem lr_X35_9_45 : FLkR RX35 9 45 0 (.array .int) := sorry
theorem lr_X35_25_19 : FLkR RX35 25 19 1 .int := sorry
theorem lr_X35_31_19 : FLkR RX35 31 19 0 (.array .int) := sorry
theorem lm_X35_34 : VLk RX35 34 19 yX5_add cX5_add 2 none 1 := sorry
theorem lr_X32_9_19 : FLkR RX32 9 19 1 .int := sorry
theorem lr_X32_15_19 : FLkR RX32 15 19 0 (.array .int) := sorry
theorem lm_X32_19 : VLk RX32 19 19 yX5_at cX5_at 2 (some .int) 1 := sorry
theorem lm_X32_23 : SLk RX32 23 yX32_low cX32_low 2 (some .int) 2 := sorry
theorem lm_X32_29 : SLk RX32 29 yX32_high cX32_high 2 (some .int) 2 := sorry
theorem lm_X32_33 : VLk RX32 33 19 yX5_add cX5_add 2 none 1 := sorry
theorem lr_X33_9_44 : FLkR RX33 9 44 0 .int := sorry
theorem lr_X33_15_19 : FLkR RX33 15 19 1 .int := sorry
theorem lr_X33_20_19 : FLkR RX33 20 19 0 (.array .int) := sorry
theorem lm_X33_28 : ILk RX33 28 yX36_init cX36_init 2 1 := sorry
theorem lm_X33_35 : VLk RX33 35 46 yX36_end cX36_end 1 none 0 := sorry
theorem lm_X33_39 : VLk RX33 39 19 yX5_add cX5_add 2 none 1 := sorry
theorem lm_X33_31 : VLk RX33 31 46 yX36_add cX36_add 3 none 1 := sorry
theorem lm_X34_36 : ILk RX34 36 yX36_init cX36_init 2 1 := sorry
theorem lm_X34_24 : VLk RX34 24 19 yX5_at cX5_at 2 (some .int) 1 := sorry
theorem ln_X34_39 : NLk RX34 39 yX1_letter cX1_letter 1 (some .int) 1 := sorry
theorem lm_X34_45 : VLk RX34 45 46 yX36_end cX36_end 1 none 0 := sorry
theorem lm_X34_44 : VLk RX34 44 46 yX36_add cX36_add 3 none 1 := sorry
theorem lr_X34_9_19 : FLkR RX34 9 19 1 .int := sorry
theorem lr_X34_15_19 : FLkR RX34 15 19 0 (.array .int) := sorry
theorem lm_X34_28 : SLk RX34 28 yX34_run cX34_run 7 (some .int) 3 := sorry
theorem lm_X34_20 : VLk RX34 20 19 yX5_add cX5_add 2 none 1 := sorry
theorem lr_X38_7_19 : FLkR RX38 7 19 1 .int := sorry
theorem lr_X38_13_19 : FLkR RX38 13 19 0 (.array .int) := sorry
theorem ln_X38_17 : NLk RX38 17 yX1_letter cX1_letter 1 (some .int) 1 := sorry
theorem lm_X38_24 : VLk RX38 24 19 yX5_add cX5_add 2 none 1 := sorry
theorem lm_X42_7 : VLk RX42 7 2 yJ2_length cJ2_length 1 (some .int) 0 := sorry
theorem lr_X42_13_19 : FLkR RX42 13 19 0 (.array .int) := sorry
theorem lm_X42_19 : VLk RX42 19 2 yJ2_charAt cJ2_charAt 2 (some .char) 1 := sorry
theorem lr_X42_23_48 : FLkR RX42 23 48 0 .boolean := sorry
theorem lm_X42_31 : SLk RX42 31 yX42_is cX42_is 5 (some .boolean) 4 := sorry
theorem lf_X42_23_48 : FLk RX42 23 48 0 .boolean false := sorry
theorem lm_X42_37 : VLk RX42 37 19 yX5_add cX5_add 2 none 1 := sorry
theorem lr_X41_9_19 : FLkR RX41 9 19 0 (.array .int) := sorry
theorem ln_X41_15 : NLk RX41 15 yX1_isBlank cX1_isBlank 1 (some .boolean) 1 := sorry
theorem lm_X41_23 : VLk RX41 23 19 yX5_add cX5_add 2 none 1 := sorry
theorem ln_X41_19 : NLk RX41 19 yX1_hexByte cX1_hexByte 2 (some .int) 2 := sorry
theorem lr_X40_7_19 : FLkR RX40 7 19 1 .int := sorry
theorem lr_X40_13_19 : FLkR RX40 13 19 0 (.array .int) := sorry
theorem lu_X40_17_48 : ULk RX40 17 48 ⟨"MailWorks$ByLines", "line", "(LMailWorks$Ints;IIZLMailWorks$Ints;)Z"⟩ yX42_line cX42_line 10 (some .boolean) 5 := sorry
theorem lu_X40_17_68 : ULk RX40 17 68 ⟨"MailWorks$ByLines", "line", "(LMailWorks$Ints;IIZLMailWorks$Ints;)Z"⟩ yX41_line cX41_line 10 (some .boolean) 5 := sorry
set_option maxHeartbeats 4000000 in
theorem s2_X31_init {ω : AO} {d G : Nat} {l0 : Int} {Θ : Th} {Q : Th → Prop} (hB : (1 ≤ d) ∧ (0 ≤ l0) ∧ Q Θ) : w2_X31_init ω d G l0 Θ Q := sorry
set_option maxHeartbeats 4000000 in
theorem s2_X37_init {ω : AO} {d G : Nat} {l0 : Int} {Θ : Th} {Q : Th → Prop} (hB : (1 ≤ d) ∧ (0 ≤ l0) ∧ Q Θ) : w2_X37_init ω d G l0 Θ Q := sorry
set_option maxHeartbeats 4000000 in
theorem s2_X32_init {ω : AO} {d G : Nat} {l0 : Int} {Θ : Th} {Q : Th → Prop} (hB : (1 ≤ d) ∧ (0 ≤ l0) ∧ ∃ G1 : Nat, (0 + G1 ≤ G) ∧ w2_X31_init ω (d - 1) G1 l0 Θ (fun Θ1 => ∀ (L1 : Le Θ Θ1), (0 + G1 ≤ G) ∧ Q Θ1)) : w2_X32_init ω d G l0 Θ Q := sorry
set_option maxHeartbeats 4000000 in
theorem s2_X33_init {ω : AO} {d G : Nat} {l0 l1 : Int} {Θ : Th} {Q : Th → Prop} (hB : (1 ≤ d) ∧ (0 ≤ l0) ∧ ∃ G1 : Nat, (0 + G1 ≤ G) ∧ w2_X31_init ω (d - 1) G1 l0 Θ (fun Θ1 => ∀ (L1 : Le Θ Θ1), (kd Θ1 l0 = 44) ∧ (¬ fz Θ1 l0) ∧ (-2147483648 ≤ l1 ∧ l1 < 2147483648) ∧ ∀ (Θ6 : Th) (t6 : Θ6 = pf Θ1 l0 0 l1), (0 + G1 ≤ G) ∧ Q Θ6)) : w2_X33_init ω d G l0 l1 Θ Q := sorry
set_option maxHeartbeats 4000000 in
theorem s2_X34_init {ω : AO} {d G : Nat} {l0 : Int} {Θ : Th} {Q : Th → Prop} (hB : (1 ≤ d) ∧ (0 ≤ l0) ∧ ∃ G1 : Nat, (0 + G1 ≤ G) ∧ w2_X31_init ω (d - 1) G1 l0 Θ (fun Θ1 => ∀ (L1 : Le Θ Θ1), (0 + G1 ≤ G) ∧ Q Θ1)) : w2_X34_init ω d G l0 Θ Q := sorry
set_option maxHeartbeats 4000000 in
theorem s2_X38_init {ω : AO} {d G : Nat} {l0 : Int} {Θ : Th} {Q : Th → Prop} (hB : (1 ≤ d) ∧ (0 ≤ l0) ∧ ∃ G1 : Nat, (0 + G1 ≤ G) ∧ w2_X37_init ω (d - 1) G1 l0 Θ (fun Θ1 => ∀ (L1 : Le Θ Θ1), (0 + G1 ≤ G) ∧ Q Θ1)) : w2_X38_init ω d G l0 Θ Q := sorry
set_option maxHeartbeats 4000000 in
theorem s2_X40_init {ω : AO} {d G : Nat} {l0 : Int} {Θ : Th} {Q : Th → Prop} (hB : (1 ≤ d) ∧ (0 ≤ l0) ∧ ∃ G1 : Nat, (0 + G1 ≤ G) ∧ w2_X37_init ω (d - 1) G1 l0 Θ (fun Θ1 => ∀ (L1 : Le Θ Θ1), (0 + G1 ≤ G) ∧ Q Θ1)) : w2_X40_init ω d G l0 Θ Q := sorry
set_option maxHeartbeats 4000000 in
theorem s2_X41_init {ω : AO} {d G : Nat} {l0 : Int} {Θ : Th} {Q : Th → Prop} (hB : (1 ≤ d) ∧ (0 ≤ l0) ∧ ∃ G1 : Nat, (0 + G1 ≤ G) ∧ w2_X40_init ω (d - 1) G1 l0 Θ (fun Θ1 => ∀ (L1 : Le Θ Θ1), (0 + G1 ≤ G) ∧ Q Θ1)) : w2_X41_init ω d G l0 Θ Q := sorry
set_option maxHeartbeats 4000000 in
theorem s2_X42_init {ω : AO} {d G : Nat} {l0 : Int} {Θ : Th} {Q : Th → Prop} (hB : (1 ≤ d) ∧ (0 ≤ l0) ∧ ∃ G1 : Nat, (0 + G1 ≤ G) ∧ w2_X40_init ω (d - 1) G1 l0 Θ (fun Θ1 => ∀ (L1 : Le Θ Θ1), (0 + G1 ≤ G) ∧ Q Θ1)) : w2_X42_init ω d G l0 Θ Q := sorry
set_option maxHeartbeats 4000000 in
theorem s2_X36_init {ω : AO} {d G : Nat} {l0 l1 : Int} {Θ : Th} {Q : Th → Prop} (hB : (1 ≤ d) ∧ (0 ≤ l0) ∧ (kd Θ l0 = 46) ∧ (¬ fz Θ l0) ∧ ∀ (Θ6 : Th) (t6 : Θ6 = pf Θ l0 1 (-1)), (¬ fz Θ6 l0) ∧ (-1 ≤ l1) ∧ ∀ (Θ11 : Th) (t11 : Θ11 = pf Θ6 l0 0 l1), Q Θ11) : w2_X36_init ω d G l0 l1 Θ Q := sorry
set_option maxHeartbeats 4000000 in
theorem s2_X36_end {ω : AO} {d G : Nat} {l0 : Int} {Θ : Th} {Q : Th → Prop} (hB : (kd Θ l0 = 46) ∧ ∀ (v1 : Int) (e1 : v1 = gt (vv Θ l0) 1) (r1 : -2147483648 ≤ v1 ∧ v1 < 2147483648), (∀ (c4 : v1 < 0), (¬ fz Θ l0) ∧ ∀ (Θ18 : Th) (t18 : Θ18 = pf Θ l0 1 (-1)), Q Θ18) ∧ (∀ (c4 : 0 ≤ v1), ∀ (v8 : Int) (e8 : v8 = gt (vv Θ l0) 0) (r8 : -1 ≤ v8), (1 ≤ d) ∧ (kd Θ v8 = 19) ∧ (¬ fz Θ v8) ∧ (rwC (cp Θ v8) (len (vv Θ v8)) ≤ 60000000) ∧ (3 ≤ d) ∧ (0 + (rwK (cp Θ v8) (len (vv Θ v8))).toNat ≤ G) ∧ ∀ (Θ13 : Th) (t13 : Θ13 = uq Θ v8 (19, vv Θ v8 ++ [(65533 : Int)], rwC (cp Θ v8) (len (vv Θ v8)), cx Θ v8)), (¬ fz Θ13 l0) ∧ ∀ (Θ18 : Th) (t18 : Θ18 = pf Θ13 l0 1 (-1)), Q Θ18)) : w2_X36_end ω d G l0 Θ Q := sorry
def W2_X36_add_16 (ω : AO) (d G : Nat) (l0 l1 : Int) (g : Nat) (Θ : Th) (Q : Th → Prop) : Prop := Hid (SJ2 ω yX36_add cX36_add 3 none d G (fun Sz Θz => (eU Sz (q2U ω Θz Q))) 16 [(2, l0), (0, l1), vN] [] g Θ)
def W2_X36_add_17 (ω : AO) (d G : Nat) (l0 l1 s0 : Int) (g : Nat) (Θ : Th) (Q : Th → Prop) : Prop := Hid (SJ2 ω yX36_add cX36_add 3 none d G (fun Sz Θz => (eU Sz (q2U ω Θz Q))) 17 [(2, l0), (0, l1), vN] [(0, s0)] g Θ)
def W2_X36_add_60 (ω : AO) (d G : Nat) (l0 l1 l2 : Int) (g : Nat) (Θ : Th) (Q : Th → Prop) : Prop := Hid (SJ2 ω yX36_add cX36_add 3 none d G (fun Sz Θz => (eU Sz (q2U ω Θz Q))) 60 [(2, l0), (0, l1), (0, l2)] [] g Θ)
def W2_X36_add_84 (ω : AO) (d G : Nat) (l0 l1 l2 : Int) (g : Nat) (Θ : Th) (Q : Th → Prop) : Prop := Hid (SJ2 ω yX36_add cX36_add 3 none d G (fun Sz Θz => (eU Sz (q2U ω Θz Q))) 84 [(2, l0), (0, l1), (0, l2)] [] g Θ)
def W2_X36_add_98 (ω : AO) (d G : Nat) (s0 s1 : Int) (g : Nat) (Θ : Th) (Q : Th → Prop) : Prop := Hid (SJ2 ω yX36_add cX36_add 3 none d G (fun Sz Θz => (eU Sz (q2U ω Θz Q))) 98 [vN, vN, vN] [(0, s0), (2, s1)] g Θ)
set_option maxHeartbeats 4000000 in
theorem s2_X36_add {ω : AO} {d G : Nat} {l0 l1 : Int} {Θ : Th} {Q : Th → Prop} (hB : (-2147483648 ≤ l1 ∧ l1 < 2147483648) ∧ (∀ (c3 : l1 < 56320), W2_X36_add_16 ω d G l0 l1 (0) Θ Q) ∧ (∀ (c3 : 56320 ≤ l1), (∀ (c9 : 57344 ≤ l1), W2_X36_add_16 ω d G l0 l1 (0) Θ Q) ∧ (∀ (c9 : l1 < 57344), W2_X36_add_17 ω d G l0 l1 1 (0) Θ Q))) : w2_X36_add ω d G l0 l1 Θ Q := sorry
set_option maxHeartbeats 4000000 in
theorem s2_X36_add_16 {ω : AO} {d G : Nat} {l0 l1 : Int} {g : Nat} {Θ : Th} {Q : Th → Prop} (hB : W2_X36_add_17 ω d G l0 l1 0 (g) Θ Q) : W2_X36_add_16 ω d G l0 l1 g Θ Q := sorry
set_option maxHeartbeats 4000000 in
theorem s2_X36_add_17 {ω : AO} {d G : Nat} {l0 l1 s0 : Int} {g : Nat} {Θ : Th} {Q : Th → Prop} (hB : (kd Θ l0 = 46) ∧ ∀ (v19 : Int) (e19 : v19 = gt (vv Θ l0) 1) (r19 : -2147483648 ≤ v19 ∧ v19 < 2147483648), (∀ (c22 : v19 < 0), W2_X36_add_60 ω d G l0 l1 s0 (g) Θ Q) ∧ (∀ (c22 : 0 ≤ v19), (-2147483648 ≤ s0 ∧ s0 < 2147483648) ∧ (∀ (c26 : s0 = 0), W2_X36_add_60 ω d G l0 l1 s0 (g) Θ Q) ∧ (∀ (c26 : ¬ s0 = 0), ∀ (v30 : Int) (e30 : v30 = gt (vv Θ l0) 0) (r30 : -1 ≤ v30), ∀ (v36 : Int) (e36 : v36 = gt (vv Θ l0) 1) (r36 : -2147483648 ≤ v36 ∧ v36 < 2147483648), (1 ≤ d) ∧ (kd Θ v30 = 19) ∧ (¬ fz Θ v30) ∧ (rwC (cp Θ v30) (len (vv Θ v30)) ≤ 60000000) ∧ (-2147483648 ≤ (((65536 + ((v36 - 55296) * 1024)) + l1) - 56320) ∧ (((65536 + ((v36 - 55296) * 1024)) + l1) - 56320) < 2147483648) ∧ (3 ≤ d) ∧ (g + (rwK (cp Θ v30) (len (vv Θ v30))).toNat ≤ G) ∧ ∀ (Θ51 : Th) (t51 : Θ51 = uq Θ v30 (19, vv Θ v30 ++ [(((65536 + ((v36 - 55296) * 1024)) + l1) - 56320)], rwC (cp Θ v30) (len (vv Θ v30)), cx Θ v30)), (¬ fz Θ51 l0) ∧ ∀ (Θ56 : Th) (t56 : Θ56 = pf Θ51 l0 1 (-1)), Q Θ56))) : W2_X36_add_17 ω d G l0 l1 s0 g Θ Q := sorry
set_option maxHeartbeats 4000000 in
theorem s2_X36_add_60 {ω : AO} {d G : Nat} {l0 l1 l2 : Int} {g : Nat} {Θ : Th} {Q : Th → Prop} (hB : (1 ≤ d) ∧ (kd Θ l0 = 46) ∧ ∃ G61 : Nat, (g + G61 ≤ G) ∧ w2_X36_end ω (d - 1) G61 l0 Θ (fun Θ61 => ∀ (L61 : Le Θ Θ61), (-2147483648 ≤ l1 ∧ l1 < 2147483648) ∧ (∀ (c67 : l1 < 55296), W2_X36_add_84 ω d G l0 l1 l2 (g + G61) Θ61 Q) ∧ (∀ (c67 : 55296 ≤ l1), (∀ (c73 : 56320 ≤ l1), W2_X36_add_84 ω d G l0 l1 l2 (g + G61) Θ61 Q) ∧ (∀ (c73 : l1 < 56320), (¬ fz Θ61 l0) ∧ ∀ (Θ78 : Th) (t78 : Θ78 = pf Θ61 l0 1 l1), (g + G61 ≤ G) ∧ Q Θ78)))) : W2_X36_add_60 ω d G l0 l1 l2 g Θ Q := sorry
set_option maxHeartbeats 4000000 in
theorem s2_X36_add_84 {ω : AO} {d G : Nat} {l0 l1 l2 : Int} {g : Nat} {Θ : Th} {Q : Th → Prop} (hB : (kd Θ l0 = 46) ∧ ∀ (v85 : Int) (e85 : v85 = gt (vv Θ l0) 0) (r85 : -1 ≤ v85), (-2147483648 ≤ l2 ∧ l2 < 2147483648) ∧ (∀ (c89 : l2 = 0), W2_X36_add_98 ω d G l1 v85 (g) Θ Q) ∧ (∀ (c89 : ¬ l2 = 0), W2_X36_add_98 ω d G 65533 v85 (g) Θ Q)) : W2_X36_add_84 ω d G l0 l1 l2 g Θ Q := sorry
set_option maxHeartbeats 4000000 in
theorem s2_X36_add_98 {ω : AO} {d G : Nat} {s0 s1 : Int} {g : Nat} {Θ : Th} {Q : Th → Prop} (hB : (1 ≤ d) ∧ (kd Θ s1 = 19) ∧ (¬ fz Θ s1) ∧ (rwC (cp Θ s1) (len (vv Θ s1)) ≤ 60000000) ∧ (-2147483648 ≤ s0 ∧ s0 < 2147483648) ∧ (3 ≤ d) ∧ (g + (rwK (cp Θ s1) (len (vv Θ s1))).toNat ≤ G) ∧ ∀ (Θ98 : Th) (t98 : Θ98 = uq Θ s1 (19, vv Θ s1 ++ [s0], rwC (cp Θ s1) (len (vv Θ s1)), cx Θ s1)), Q Θ98) : W2_X36_add_98 ω d G s0 s1 g Θ Q := sorry
def W2_X35_init_15 (ω : AO) (d G : Nat) (l0 l1 l2 : Int) (g : Nat) (Θ : Th) (Q : Th → Prop) : Prop := Hid (SJ2 ω yX35_init cX35_init 3 none d G (fun Sz Θz => (eU Sz (q2U ω Θz Q))) 15 [(2, l0), (0, l1), (0, l2)] [] g Θ)
def W2_X35_init_95 (ω : AO) (d G : Nat) (l0 l1 : Int) (g : Nat) (Θ : Th) (Q : Th → Prop) : Prop := Hid (SJ2 ω yX35_init cX35_init 3 none d G (fun Sz Θz => (eU Sz (q2U ω Θz Q))) 95 [(2, l0), (0, l1), vN] [] g Θ)
def W2_X35_init_68 (ω : AO) (d G : Nat) (l0 l1 l2 : Int) (g : Nat) (Θ : Th) (Q : Th → Prop) : Prop := Hid (SJ2 ω yX35_init cX35_init 3 none d G (fun Sz Θz => (eU Sz (q2U ω Θz Q))) 68 [(2, l0), (0, l1), (0, l2)] [] g Θ)
def W2_X35_init_37 (ω : AO) (d G : Nat) (l0 l1 l2 s0 s1 : Int) (g : Nat) (Θ : Th) (Q : Th → Prop) : Prop := Hid (SJ2 ω yX35_init cX35_init 3 none d G (fun Sz Θz => (eU Sz (q2U ω Θz Q))) 37 [(2, l0), (0, l1), (0, l2)] [(0, s0), (2, s1)] g Θ)
def W2_X35_init_131 (ω : AO) (d G : Nat) (l0 l1 : Int) (g : Nat) (Θ : Th) (Q : Th → Prop) : Prop := Hid (SJ2 ω yX35_init cX35_init 3 none d G (fun Sz Θz => (eU Sz (q2U ω Θz Q))) 131 [(2, l0), (0, l1), vN] [] g Θ)
def W2_X35_init_102 (ω : AO) (d G : Nat) (l0 l1 l2 : Int) (g : Nat) (Θ : Th) (Q : Th → Prop) : Prop := Hid (SJ2 ω yX35_init cX35_init 3 none d G (fun Sz Θz => (eU Sz (q2U ω Θz Q))) 102 [(2, l0), (0, l1), (0, l2)] [] g Θ)
def W2_X35_init_140 (ω : AO) (d G : Nat) (l0 l2 : Int) (g : Nat) (Θ : Th) (Q : Th → Prop) : Prop := Hid (SJ2 ω yX35_init cX35_init 3 none d G (fun Sz Θz => (eU Sz (q2U ω Θz Q))) 140 [(2, l0), vN, (0, l2)] [] g Θ)
set_option maxHeartbeats 4000000 in
theorem s2_X35_init {ω : AO} {d G : Nat} {l0 l1 : Int} {Θ : Th} {Q : Th → Prop} (hB : (1 ≤ d) ∧ (0 ≤ l0) ∧ ∃ G1 : Nat, (0 + G1 ≤ G) ∧ w2_X31_init ω (d - 1) G1 l0 Θ (fun Θ1 => ∀ (L1 : Le Θ Θ1), (0 + G1 + 53 ≤ G) ∧ ∀ (v8 : Int) (Θ8 : Th) (u8 : nt Θ1 ≤ v8 ∧ 0 ≤ v8) (b8 : Bl Θ1) (t8 : Θ8 = nu Θ1 v8 (104, List.replicate ((256 : Int)).toNat 0, 0, 0)), (kd Θ8 l0 = 45) ∧ (¬ fz Θ8 l0) ∧ ∀ (Θ10 : Th) (t10 : Θ10 = pf Θ8 l0 0 v8), W2_X35_init_15 ω d G l0 l1 0 (0 + G1 + 53) Θ10 Q)) : w2_X35_init ω d G l0 l1 Θ Q := sorry
set_option maxHeartbeats 4000000 in
theorem s2_X35_init_15 {ω : AO} {d G : Nat} {l0 l1 l2 : Int} {g : Nat} {Θ : Th} {Q : Th → Prop} (hB : (-2147483648 ≤ l2 ∧ l2 < 2147483648) ∧ (∀ (c19 : 256 ≤ l2), (-2147483648 ≤ l1 ∧ l1 < 2147483648) ∧ (∀ (c63 : ¬ l1 = 3), W2_X35_init_95 ω d G l0 l1 (g) Θ Q) ∧ (∀ (c63 : l1 = 3), W2_X35_init_68 ω d G l0 l1 0 (g) Θ Q)) ∧ (∀ (c19 : l2 < 256), (kd Θ l0 = 45) ∧ ∀ (v23 : Int) (e23 : v23 = gt (vv Θ l0) 0) (r23 : -1 ≤ v23), (-2147483648 ≤ l1 ∧ l1 < 2147483648) ∧ (∀ (c28 : l1 = 0), W2_X35_init_37 ω d G l0 l1 l2 l2 v23 (g) Θ Q) ∧ (∀ (c28 : ¬ l1 = 0), (∀ (c34 : ¬ l1 = 8), (kd Θ v23 = 104) ∧ (¬ fz Θ v23) ∧ (0 ≤ l2 ∧ l2 < len (vv Θ v23)) ∧ ∀ (Θ54 : Th) (t54 : Θ54 = pf Θ v23 l2 l2), W2_X35_init_15 ω d G l0 l1 ((l2 + 1)) (g) Θ54 Q) ∧ (∀ (c34 : l1 = 8), W2_X35_init_37 ω d G l0 l1 l2 l2 v23 (g) Θ Q)))) : W2_X35_init_15 ω d G l0 l1 l2 g Θ Q := sorry
set_option maxHeartbeats 4000000 in
theorem s2_X35_init_95 {ω : AO} {d G : Nat} {l0 l1 : Int} {g : Nat} {Θ : Th} {Q : Th → Prop} (hB : (-2147483648 ≤ l1 ∧ l1 < 2147483648) ∧ (∀ (c97 : ¬ l1 = 2), W2_X35_init_131 ω d G l0 l1 (g) Θ Q) ∧ (∀ (c97 : l1 = 2), W2_X35_init_102 ω d G l0 l1 0 (g) Θ Q)) : W2_X35_init_95 ω d G l0 l1 g Θ Q := sorry
set_option maxHeartbeats 4000000 in
theorem s2_X35_init_68 {ω : AO} {d G : Nat} {l0 l1 l2 : Int} {g : Nat} {Θ : Th} {Q : Th → Prop} (hB : (-2147483648 ≤ l2 ∧ l2 < 2147483648) ∧ (∀ (c71 : 32 ≤ l2), W2_X35_init_95 ω d G l0 l1 (g) Θ Q) ∧ (∀ (c71 : l2 < 32), (kd Θ l0 = 45) ∧ ∀ (v75 : Int) (e75 : v75 = gt (vv Θ l0) 0) (r75 : -1 ≤ v75), (kd Θ ((ω.2.2.1 "#V" 14 : Int) - 1) = 104) ∧ (0 ≤ l2 ∧ l2 < len (vv Θ ((ω.2.2.1 "#V" 14 : Int) - 1))) ∧ ∀ (v87 : Int) (e87 : v87 = gt (vv Θ ((ω.2.2.1 "#V" 14 : Int) - 1)) l2) (r87 : -2147483648 ≤ v87 ∧ v87 < 2147483648), (kd Θ v75 = 104) ∧ (¬ fz Θ v75) ∧ (0 ≤ (128 + l2) ∧ (128 + l2) < len (vv Θ v75)) ∧ ∀ (Θ88 : Th) (t88 : Θ88 = pf Θ v75 (128 + l2) v87), W2_X35_init_68 ω d G l0 l1 ((l2 + 1)) (g) Θ88 Q)) : W2_X35_init_68 ω d G l0 l1 l2 g Θ Q := sorry
set_option maxHeartbeats 4000000 in
theorem s2_X35_init_37 {ω : AO} {d G : Nat} {l0 l1 l2 s0 s1 : Int} {g : Nat} {Θ : Th} {Q : Th → Prop} (hB : (-2147483648 ≤ l2 ∧ l2 < 2147483648) ∧ (∀ (c41 : 128 ≤ l2), (kd Θ s1 = 104) ∧ (¬ fz Θ s1) ∧ (0 ≤ s0 ∧ s0 < len (vv Θ s1)) ∧ ∀ (Θ54 : Th) (t54 : Θ54 = pf Θ s1 s0 65533), W2_X35_init_15 ω d G l0 l1 ((l2 + 1)) (g) Θ54 Q) ∧ (∀ (c41 : l2 < 128), (kd Θ s1 = 104) ∧ (¬ fz Θ s1) ∧ (0 ≤ s0 ∧ s0 < len (vv Θ s1)) ∧ ∀ (Θ54 : Th) (t54 : Θ54 = pf Θ s1 s0 l2), W2_X35_init_15 ω d G l0 l1 ((l2 + 1)) (g) Θ54 Q)) : W2_X35_init_37 ω d G l0 l1 l2 s0 s1 g Θ Q := sorry
set_option maxHeartbeats 4000000 in
theorem s2_X35_init_131 {ω : AO} {d G : Nat} {l0 l1 : Int} {g : Nat} {Θ : Th} {Q : Th → Prop} (hB : (-2147483648 ≤ l1 ∧ l1 < 2147483648) ∧ (∀ (c134 : l1 = 8), W2_X35_init_140 ω d G l0 0 (g) Θ Q) ∧ (∀ (c134 : ¬ l1 = 8), (g ≤ G) ∧ Q Θ)) : W2_X35_init_131 ω d G l0 l1 g Θ Q := sorry
set_option maxHeartbeats 4000000 in
theorem s2_X35_init_102 {ω : AO} {d G : Nat} {l0 l1 l2 : Int} {g : Nat} {Θ : Th} {Q : Th → Prop} (hB : (-2147483648 ≤ l2 ∧ l2 < 2147483648) ∧ (∀ (c105 : 16 ≤ l2), W2_X35_init_131 ω d G l0 l1 (g) Θ Q) ∧ (∀ (c105 : l2 < 16), (kd Θ l0 = 45) ∧ ∀ (v109 : Int) (e109 : v109 = gt (vv Θ l0) 0) (r109 : -1 ≤ v109), (kd Θ ((ω.2.2.1 "#V" 15 : Int) - 1) = 104) ∧ (0 ≤ l2 ∧ l2 < len (vv Θ ((ω.2.2.1 "#V" 15 : Int) - 1))) ∧ ∀ (v116 : Int) (e116 : v116 = gt (vv Θ ((ω.2.2.1 "#V" 15 : Int) - 1)) l2) (r116 : -2147483648 ≤ v116 ∧ v116 < 2147483648), (0 ≤ (l2 + 1) ∧ (l2 + 1) < len (vv Θ ((ω.2.2.1 "#V" 15 : Int) - 1))) ∧ ∀ (v123 : Int) (e123 : v123 = gt (vv Θ ((ω.2.2.1 "#V" 15 : Int) - 1)) (l2 + 1)) (r123 : -2147483648 ≤ v123 ∧ v123 < 2147483648), (kd Θ v109 = 104) ∧ (¬ fz Θ v109) ∧ (0 ≤ v116 ∧ v116 < len (vv Θ v109)) ∧ ∀ (Θ124 : Th) (t124 : Θ124 = pf Θ v109 v116 v123), W2_X35_init_102 ω d G l0 l1 ((l2 + 2)) (g) Θ124 Q)) : W2_X35_init_102 ω d G l0 l1 l2 g Θ Q := sorry
set_option maxHeartbeats 4000000 in
theorem s2_X35_init_140 {ω : AO} {d G : Nat} {l0 l2 : Int} {g : Nat} {Θ : Th} {Q : Th → Prop} (hB : (-2147483648 ≤ l2 ∧ l2 < 2147483648) ∧ (∀ (c143 : 32 ≤ l2), (kd Θ l0 = 45) ∧ ∀ (v186 : Int) (e186 : v186 = gt (vv Θ l0) 0) (r186 : -1 ≤ v186), (kd Θ v186 = 104) ∧ (¬ fz Θ v186) ∧ (0 ≤ (163 : Int) ∧ 163 < len (vv Θ v186)) ∧ ∀ (Θ195 : Th) (t195 : Θ195 = pf Θ v186 163 1105), ∀ (v197 : Int) (e197 : v197 = gt (vv Θ195 l0) 0) (r197 : -1 ≤ v197), (kd Θ195 v197 = 104) ∧ (¬ fz Θ195 v197) ∧ (0 ≤ (179 : Int) ∧ 179 < len (vv Θ195 v197)) ∧ ∀ (Θ206 : Th) (t206 : Θ206 = pf Θ195 v197 179 1025), (g ≤ G) ∧ Q Θ206) ∧ (∀ (c143 : l2 < 32), (kd Θ l0 = 45) ∧ ∀ (v147 : Int) (e147 : v147 = gt (vv Θ l0) 0) (r147 : -1 ≤ v147), (kd Θ ((ω.2.2.1 "#V" 16 : Int) - 1) = 104) ∧ (0 ≤ l2 ∧ l2 < len (vv Θ ((ω.2.2.1 "#V" 16 : Int) - 1))) ∧ ∀ (v159 : Int) (e159 : v159 = gt (vv Θ ((ω.2.2.1 "#V" 16 : Int) - 1)) l2) (r159 : -2147483648 ≤ v159 ∧ v159 < 2147483648), (kd Θ v147 = 104) ∧ (¬ fz Θ v147) ∧ (0 ≤ (192 + l2) ∧ (192 + l2) < len (vv Θ v147)) ∧ ∀ (Θ160 : Th) (t160 : Θ160 = pf Θ v147 (192 + l2) v159), ∀ (v162 : Int) (e162 : v162 = gt (vv Θ160 l0) 0) (r162 : -1 ≤ v162), (0 ≤ l2 ∧ l2 < len (vv Θ160 ((ω.2.2.1 "#V" 16 : Int) - 1))) ∧ ∀ (v174 : Int) (e174 : v174 = gt (vv Θ160 ((ω.2.2.1 "#V" 16 : Int) - 1)) l2) (r174 : -2147483648 ≤ v174 ∧ v174 < 2147483648), (kd Θ160 v162 = 104) ∧ (¬ fz Θ160 v162) ∧ (0 ≤ (224 + l2) ∧ (224 + l2) < len (vv Θ160 v162)) ∧ (-2147483648 ≤ (v174 - 32) ∧ (v174 - 32) < 2147483648) ∧ ∀ (Θ178 : Th) (t178 : Θ178 = pf Θ160 v162 (224 + l2) (v174 - 32)), W2_X35_init_140 ω d G l0 ((l2 + 1)) (g) Θ178 Q)) : W2_X35_init_140 ω d G l0 l2 g Θ Q := sorry
def W2_X35_read_2 (ω : AO) (d G : Nat) (l0 l1 l2 l3 : Int) (g : Nat) (Θ : Th) (Q : Th → Prop) : Prop := Hid (SJ2 ω yX35_read cX35_read 4 none d G (fun Sz Θz => (eU Sz (q2U ω Θz Q))) 2 [(2, l0), (2, l1), (2, l2), (0, l3)] [] g Θ)
set_option maxHeartbeats 4000000 in
theorem s2_X35_read {ω : AO} {d G : Nat} {l0 l1 l2 : Int} {Θ : Th} {Q : Th → Prop} (hB : W2_X35_read_2 ω d G l0 l1 l2 0 (0) Θ Q) : w2_X35_read ω d G l0 l1 l2 Θ Q := sorry
set_option maxHeartbeats 4000000 in
theorem s2_X35_read_2 {ω : AO} {d G : Nat} {l0 l1 l2 l3 : Int} {g : Nat} {Θ : Th} {Q : Th → Prop} (hB : (kd Θ l1 = 19) ∧ ∀ (v4 : Int) (e4 : v4 = len (vv Θ l1)) (r4 : -2147483648 ≤ v4 ∧ v4 < 2147483648), (-2147483648 ≤ l3 ∧ l3 < 2147483648) ∧ (∀ (c7 : v4 ≤ l3), (g ≤ G) ∧ Q Θ) ∧ (∀ (c7 : l3 < v4), (kd Θ l0 = 45) ∧ ∀ (v12 : Int) (e12 : v12 = gt (vv Θ l0) 0) (r12 : -1 ≤ v12), (0 ≤ l3 ∧ l3 < len (vv Θ l1)) ∧ ∀ (v20 : Int) (e20 : v20 = gt (vv Θ l1) l3) (r20 : -2147483648 ≤ v20 ∧ v20 < 2147483648), (kd Θ v12 = 104) ∧ (0 ≤ v20 ∧ v20 < len (vv Θ v12)) ∧ ∀ (v21 : Int) (e21 : v21 = gt (vv Θ v12) v20) (r21 : -2147483648 ≤ v21 ∧ v21 < 2147483648), (1 ≤ d) ∧ (kd Θ l2 = 19) ∧ (¬ fz Θ l2) ∧ (rwC (cp Θ l2) (len (vv Θ l2)) ≤ 60000000) ∧ (3 ≤ d) ∧ (g + (rwK (cp Θ l2) (len (vv Θ l2))).toNat ≤ G) ∧ ∀ (Θ22 : Th) (t22 : Θ22 = uq Θ l2 (19, vv Θ l2 ++ [v21], rwC (cp Θ l2) (len (vv Θ l2)), cx Θ l2)), W2_X35_read_2 ω d G l0 l1 l2 ((l3 + 1)) (g + (rwK (cp Θ l2) (len (vv Θ l2))).toNat) Θ22 Q)) : W2_X35_read_2 ω d G l0 l1 l2 l3 g Θ Q := sorry
def W2_X32_read_2 (ω : AO) (d G : Nat) (l1 l2 l3 : Int) (g : Nat) (Θ : Th) (Q : Th → Prop) : Prop := Hid (SJ2 ω yX32_read cX32_read 8 none d G (fun Sz Θz => (eU Sz (q2U ω Θz Q))) 2 [vN, (2, l1), (2, l2), (0, l3), vN, vN, vN, vN] [] g Θ)
def W2_X32_read_50 (ω : AO) (d G : Nat) (l1 l2 l3 l4 : Int) (g : Nat) (Θ : Th) (Q : Th → Prop) : Prop := Hid (SJ2 ω yX32_read cX32_read 8 none d G (fun Sz Θz => (eU Sz (q2U ω Θz Q))) 50 [vN, (2, l1), (2, l2), (0, l3), (0, l4), vN, vN, vN] [] g Θ)
def W2_X32_read_91 (ω : AO) (d G : Nat) (l1 l2 l3 l4 s0 : Int) (g : Nat) (Θ : Th) (Q : Th → Prop) : Prop := Hid (SJ2 ω yX32_read cX32_read 8 none d G (fun Sz Θz => (eU Sz (q2U ω Θz Q))) 91 [vN, (2, l1), (2, l2), (0, l3), (0, l4), vN, vN, vN] [(0, s0)] g Θ)
def W2_X32_read_70 (ω : AO) (d G : Nat) (l1 l2 l3 l4 : Int) (g : Nat) (Θ : Th) (Q : Th → Prop) : Prop := Hid (SJ2 ω yX32_read cX32_read 8 none d G (fun Sz Θz => (eU Sz (q2U ω Θz Q))) 70 [vN, (2, l1), (2, l2), (0, l3), (0, l4), vN, vN, vN] [] g Θ)
def W2_X32_read_116 (ω : AO) (d G : Nat) (l1 l2 l3 l4 l5 l6 l7 : Int) (g : Nat) (Θ : Th) (Q : Th → Prop) : Prop := Hid (SJ2 ω yX32_read cX32_read 8 none d G (fun Sz Θz => (eU Sz (q2U ω Θz Q))) 116 [vN, (2, l1), (2, l2), (0, l3), (0, l4), (0, l5), (0, l6), (0, l7)] [] g Θ)
def W2_X32_read_90 (ω : AO) (d G : Nat) (l1 l2 l3 l4 : Int) (g : Nat) (Θ : Th) (Q : Th → Prop) : Prop := Hid (SJ2 ω yX32_read cX32_read 8 none d G (fun Sz Θz => (eU Sz (q2U ω Θz Q))) 90 [vN, (2, l1), (2, l2), (0, l3), (0, l4), vN, vN, vN] [] g Θ)
def W2_X32_read_184 (ω : AO) (d G : Nat) (l1 l2 l3 l5 l6 l7 : Int) (g : Nat) (Θ : Th) (Q : Th → Prop) : Prop := Hid (SJ2 ω yX32_read cX32_read 8 none d G (fun Sz Θz => (eU Sz (q2U ω Θz Q))) 184 [vN, (2, l1), (2, l2), (0, l3), vN, (0, l5), (0, l6), (0, l7)] [] g Θ)
def W2_X32_read_197 (ω : AO) (d G : Nat) (l1 l2 l3 l7 s0 : Int) (g : Nat) (Θ : Th) (Q : Th → Prop) : Prop := Hid (SJ2 ω yX32_read cX32_read 8 none d G (fun Sz Θz => (eU Sz (q2U ω Θz Q))) 197 [vN, (2, l1), (2, l2), (0, l3), vN, vN, vN, (0, l7)] [(2, s0)] g Θ)
def W2_X32_read_204 (ω : AO) (d G : Nat) (l1 l2 l3 l7 s0 s1 : Int) (g : Nat) (Θ : Th) (Q : Th → Prop) : Prop := Hid (SJ2 ω yX32_read cX32_read 8 none d G (fun Sz Θz => (eU Sz (q2U ω Θz Q))) 204 [vN, (2, l1), (2, l2), (0, l3), vN, vN, vN, (0, l7)] [(0, s0), (2, s1)] g Θ)
set_option maxHeartbeats 4000000 in
theorem s2_X32_read {ω : AO} {d G : Nat} {l0 l1 l2 : Int} {Θ : Th} {Q : Th → Prop} (hB : W2_X32_read_2 ω d G l1 l2 0 (0) Θ Q) : w2_X32_read ω d G l0 l1 l2 Θ Q := sorry
set_option maxHeartbeats 4000000 in
theorem s2_X32_read_2 {ω : AO} {d G : Nat} {l1 l2 l3 : Int} {g : Nat} {Θ : Th} {Q : Th → Prop} (hB : (kd Θ l1 = 19) ∧ ∀ (v4 : Int) (e4 : v4 = len (vv Θ l1)) (r4 : -2147483648 ≤ v4 ∧ v4 < 2147483648), (-2147483648 ≤ l3 ∧ l3 < 2147483648) ∧ (∀ (c7 : v4 ≤ l3), (g ≤ G) ∧ Q Θ) ∧ (∀ (c7 : l3 < v4), (0 ≤ l3 ∧ l3 < len (vv Θ l1)) ∧ ∀ (v15 : Int) (e15 : v15 = gt (vv Θ l1) l3) (r15 : -2147483648 ≤ v15 ∧ v15 < 2147483648), (∀ (c23 : 128 ≤ v15), (∀ (c35 : v15 < 194), W2_X32_read_50 ω d G l1 l2 l3 v15 (g) Θ Q) ∧ (∀ (c35 : 194 ≤ v15), (∀ (c43 : 224 ≤ v15), W2_X32_read_50 ω d G l1 l2 l3 v15 (g) Θ Q) ∧ (∀ (c43 : v15 < 224), W2_X32_read_91 ω d G l1 l2 l3 v15 1 (g) Θ Q))) ∧ (∀ (c23 : v15 < 128), W2_X32_read_91 ω d G l1 l2 l3 v15 0 (g) Θ Q))) : W2_X32_read_2 ω d G l1 l2 l3 g Θ Q := sorry
set_option maxHeartbeats 4000000 in
theorem s2_X32_read_50 {ω : AO} {d G : Nat} {l1 l2 l3 l4 : Int} {g : Nat} {Θ : Th} {Q : Th → Prop} (hB : (-2147483648 ≤ l4 ∧ l4 < 2147483648) ∧ (∀ (c55 : l4 < 224), W2_X32_read_70 ω d G l1 l2 l3 l4 (g) Θ Q) ∧ (∀ (c55 : 224 ≤ l4), (∀ (c63 : 240 ≤ l4), W2_X32_read_70 ω d G l1 l2 l3 l4 (g) Θ Q) ∧ (∀ (c63 : l4 < 240), W2_X32_read_91 ω d G l1 l2 l3 l4 2 (g) Θ Q))) : W2_X32_read_50 ω d G l1 l2 l3 l4 g Θ Q := sorry
set_option maxHeartbeats 4000000 in
theorem s2_X32_read_91 {ω : AO} {d G : Nat} {l1 l2 l3 l4 s0 : Int} {g : Nat} {Θ : Th} {Q : Th → Prop} (hB : (-2147483648 ≤ s0 ∧ s0 < 2147483648) ∧ (∀ (c95 : 0 < s0), W2_X32_read_116 ω d G l1 l2 l3 l4 s0 ((andI l4 (shrI 63 s0))) 1 (g) Θ Q) ∧ (∀ (c95 : s0 ≤ 0), W2_X32_read_116 ω d G l1 l2 l3 l4 s0 l4 1 (g) Θ Q)) : W2_X32_read_91 ω d G l1 l2 l3 l4 s0 g Θ Q := sorry
set_option maxHeartbeats 4000000 in
theorem s2_X32_read_70 {ω : AO} {d G : Nat} {l1 l2 l3 l4 : Int} {g : Nat} {Θ : Th} {Q : Th → Prop} (hB : (-2147483648 ≤ l4 ∧ l4 < 2147483648) ∧ (∀ (c75 : l4 < 240), W2_X32_read_90 ω d G l1 l2 l3 l4 (g) Θ Q) ∧ (∀ (c75 : 240 ≤ l4), (∀ (c83 : 245 ≤ l4), W2_X32_read_90 ω d G l1 l2 l3 l4 (g) Θ Q) ∧ (∀ (c83 : l4 < 245), W2_X32_read_91 ω d G l1 l2 l3 l4 3 (g) Θ Q))) : W2_X32_read_70 ω d G l1 l2 l3 l4 g Θ Q := sorry
set_option maxHeartbeats 4000000 in
theorem s2_X32_read_116 {ω : AO} {d G : Nat} {l1 l2 l3 l4 l5 l6 l7 : Int} {g : Nat} {Θ : Th} {Q : Th → Prop} (hB : (-2147483648 ≤ l7 ∧ l7 < 2147483648) ∧ (-2147483648 ≤ l5 ∧ l5 < 2147483648) ∧ (∀ (c120 : l5 < l7), W2_X32_read_184 ω d G l1 l2 l3 l5 l6 l7 (g) Θ Q) ∧ (∀ (c120 : l7 ≤ l5), (1 ≤ d) ∧ (kd Θ l1 = 19) ∧ (-2147483648 ≤ (l3 + l7) ∧ (l3 + l7) < 2147483648) ∧ (g ≤ G) ∧ ∀ (x128 : Int) (e128 : x128 = atI (vv Θ l1) (l3 + l7)) (r128 : -2147483648 ≤ x128 ∧ x128 < 2147483648), (-2147483648 ≤ l4 ∧ l4 < 2147483648) ∧ ∀ (x135 : Int) (e135 : x135 = loF l4 l7) (r135 : -2147483648 ≤ x135 ∧ x135 < 2147483648), (∀ (c138 : x128 < x135), W2_X32_read_184 ω d G l1 l2 l3 l5 l6 l7 (g) Θ Q) ∧ (∀ (c138 : x135 ≤ x128), ∀ (x146 : Int) (e146 : x146 = atI (vv Θ l1) (l3 + l7)) (r146 : -2147483648 ≤ x146 ∧ x146 < 2147483648), ∀ (x153 : Int) (e153 : x153 = hiF l4 l7) (r153 : -2147483648 ≤ x153 ∧ x153 < 2147483648), (∀ (c156 : x153 < x146), W2_X32_read_184 ω d G l1 l2 l3 l5 l6 l7 (g) Θ Q) ∧ (∀ (c156 : x146 ≤ x153), ∀ (x169 : Int) (e169 : x169 = atI (vv Θ l1) (l3 + l7)) (r169 : -2147483648 ≤ x169 ∧ x169 < 2147483648), W2_X32_read_116 ω d G l1 l2 l3 l4 l5 ((orI (l6 * 64) (x169 % 64))) ((l7 + 1)) (g) Θ Q)))) : W2_X32_read_116 ω d G l1 l2 l3 l4 l5 l6 l7 g Θ Q := sorry
set_option maxHeartbeats 4000000 in
theorem s2_X32_read_90 {ω : AO} {d G : Nat} {l1 l2 l3 l4 : Int} {g : Nat} {Θ : Th} {Q : Th → Prop} (hB : W2_X32_read_91 ω d G l1 l2 l3 l4 ((-1)) (g) Θ Q) : W2_X32_read_90 ω d G l1 l2 l3 l4 g Θ Q := sorry
set_option maxHeartbeats 4000000 in
theorem s2_X32_read_184 {ω : AO} {d G : Nat} {l1 l2 l3 l5 l6 l7 : Int} {g : Nat} {Θ : Th} {Q : Th → Prop} (hB : (-2147483648 ≤ l5 ∧ l5 < 2147483648) ∧ (∀ (c187 : l5 < 0), W2_X32_read_197 ω d G l1 l2 l3 l7 l2 (g) Θ Q) ∧ (∀ (c187 : 0 ≤ l5), (-2147483648 ≤ l7 ∧ l7 < 2147483648) ∧ (∀ (c194 : l5 < l7), W2_X32_read_204 ω d G l1 l2 l3 l7 l6 l2 (g) Θ Q) ∧ (∀ (c194 : l7 ≤ l5), W2_X32_read_197 ω d G l1 l2 l3 l7 l2 (g) Θ Q))) : W2_X32_read_184 ω d G l1 l2 l3 l5 l6 l7 g Θ Q := sorry
set_option maxHeartbeats 4000000 in
theorem s2_X32_read_197 {ω : AO} {d G : Nat} {l1 l2 l3 l7 s0 : Int} {g : Nat} {Θ : Th} {Q : Th → Prop} (hB : W2_X32_read_204 ω d G l1 l2 l3 l7 65533 s0 (g) Θ Q) : W2_X32_read_197 ω d G l1 l2 l3 l7 s0 g Θ Q := sorry
set_option maxHeartbeats 4000000 in
theorem s2_X32_read_204 {ω : AO} {d G : Nat} {l1 l2 l3 l7 s0 s1 : Int} {g : Nat} {Θ : Th} {Q : Th → Prop} (hB : (1 ≤ d) ∧ (kd Θ s1 = 19) ∧ (¬ fz Θ s1) ∧ (rwC (cp Θ s1) (len (vv Θ s1)) ≤ 60000000) ∧ (-2147483648 ≤ s0 ∧ s0 < 2147483648) ∧ (3 ≤ d) ∧ (g + (rwK (cp Θ s1) (len (vv Θ s1))).toNat ≤ G) ∧ ∀ (Θ204 : Th) (t204 : Θ204 = uq Θ s1 (19, vv Θ s1 ++ [s0], rwC (cp Θ s1) (len (vv Θ s1)), cx Θ s1)), W2_X32_read_2 ω d G l1 l2 ((l3 + l7)) (g + (rwK (cp Θ s1) (len (vv Θ s1))).toNat) Θ204 Q) : W2_X32_read_204 ω d G l1 l2 l3 l7 s0 s1 g Θ Q := sorry
def W2_X33_read_16 (ω : AO) (d G : Nat) (l0 l1 l2 : Int) (g : Nat) (Θ : Th) (Q : Th → Prop) : Prop := Hid (SJ2 ω yX33_read cX33_read 8 none d G (fun Sz Θz => (eU Sz (q2U ω Θz Q))) 16 [(2, l0), (2, l1), (2, l2), vN, vN, vN, vN, vN] [] g Θ)
def W2_X33_read_36 (ω : AO) (d G : Nat) (l0 l1 l2 s0 : Int) (g : Nat) (Θ : Th) (Q : Th → Prop) : Prop := Hid (SJ2 ω yX33_read cX33_read 8 none d G (fun Sz Θz => (eU Sz (q2U ω Θz Q))) 36 [(2, l0), (2, l1), (2, l2), vN, vN, vN, vN, vN] [(0, s0)] g Θ)
def W2_X33_read_49 (ω : AO) (d G : Nat) (l0 l1 l2 l3 : Int) (g : Nat) (Θ : Th) (Q : Th → Prop) : Prop := Hid (SJ2 ω yX33_read cX33_read 8 none d G (fun Sz Θz => (eU Sz (q2U ω Θz Q))) 49 [(2, l0), (2, l1), (2, l2), (0, l3), vN, vN, vN, vN] [] g Θ)
def W2_X33_read_54 (ω : AO) (d G : Nat) (l0 l1 l2 l3 s0 : Int) (g : Nat) (Θ : Th) (Q : Th → Prop) : Prop := Hid (SJ2 ω yX33_read cX33_read 8 none d G (fun Sz Θz => (eU Sz (q2U ω Θz Q))) 54 [(2, l0), (2, l1), (2, l2), (0, l3), vN, vN, vN, vN] [(0, s0)] g Θ)
def W2_X33_read_71 (ω : AO) (d G : Nat) (l1 l2 l4 : Int) (g : Nat) (Θ : Th) (Q : Th → Prop) : Prop := Hid (SJ2 ω yX33_read cX33_read 8 none d G (fun Sz Θz => (eU Sz (q2U ω Θz Q))) 71 [vN, (2, l1), (2, l2), vN, (0, l4), vN, vN, vN] [] g Θ)
def W2_X33_read_76 (ω : AO) (d G : Nat) (l1 l2 l4 s0 : Int) (g : Nat) (Θ : Th) (Q : Th → Prop) : Prop := Hid (SJ2 ω yX33_read cX33_read 8 none d G (fun Sz Θz => (eU Sz (q2U ω Θz Q))) 76 [vN, (2, l1), (2, l2), vN, (0, l4), vN, vN, vN] [(0, s0)] g Θ)
def W2_X33_read_100 (ω : AO) (d G : Nat) (l1 l2 l5 l6 l7 : Int) (g : Nat) (Θ : Th) (Q : Th → Prop) : Prop := Hid (SJ2 ω yX33_read cX33_read 8 none d G (fun Sz Θz => (eU Sz (q2U ω Θz Q))) 100 [vN, (2, l1), (2, l2), vN, vN, (0, l5), (2, l6), (0, l7)] [] g Θ)
def W2_X33_read_161 (ω : AO) (d G : Nat) (l1 l2 l5 l6 l7 s0 s1 : Int) (g : Nat) (Θ : Th) (Q : Th → Prop) : Prop := Hid (SJ2 ω yX33_read cX33_read 8 none d G (fun Sz Θz => (eU Sz (q2U ω Θz Q))) 161 [vN, (2, l1), (2, l2), vN, vN, (0, l5), (2, l6), (0, l7)] [(0, s0), (2, s1)] g Θ)
set_option maxHeartbeats 4000000 in
theorem s2_X33_read {ω : AO} {d G : Nat} {l0 l1 l2 : Int} {Θ : Th} {Q : Th → Prop} (hB : (kd Θ l0 = 44) ∧ ∀ (v1 : Int) (e1 : v1 = gt (vv Θ l0) 0) (r1 : -2147483648 ≤ v1 ∧ v1 < 2147483648), (∀ (c5 : ¬ v1 = 5), W2_X33_read_16 ω d G l0 l1 l2 (0) Θ Q) ∧ (∀ (c5 : v1 = 5), (kd Θ l1 = 19) ∧ ∀ (v9 : Int) (e9 : v9 = len (vv Θ l1)) (r9 : -2147483648 ≤ v9 ∧ v9 < 2147483648), (∀ (c13 : 2 ≤ v9), (0 ≤ (0 : Int) ∧ 0 < len (vv Θ l1)) ∧ ∀ (v25 : Int) (e25 : v25 = gt (vv Θ l1) 0) (r25 : -2147483648 ≤ v25 ∧ v25 < 2147483648), (0 ≤ (1 : Int) ∧ 1 < len (vv Θ l1)) ∧ ∀ (v34 : Int) (e34 : v34 = gt (vv Θ l1) 1) (r34 : -2147483648 ≤ v34 ∧ v34 < 2147483648), W2_X33_read_36 ω d G l0 l1 l2 ((orI (v25 * 256) v34)) (0) Θ Q) ∧ (∀ (c13 : v9 < 2), W2_X33_read_16 ω d G l0 l1 l2 (0) Θ Q))) : w2_X33_read ω d G l0 l1 l2 Θ Q := sorry
set_option maxHeartbeats 4000000 in
theorem s2_X33_read_16 {ω : AO} {d G : Nat} {l0 l1 l2 : Int} {g : Nat} {Θ : Th} {Q : Th → Prop} (hB : W2_X33_read_36 ω d G l0 l1 l2 0 (g) Θ Q) : W2_X33_read_16 ω d G l0 l1 l2 g Θ Q := sorry
set_option maxHeartbeats 4000000 in
theorem s2_X33_read_36 {ω : AO} {d G : Nat} {l0 l1 l2 s0 : Int} {g : Nat} {Θ : Th} {Q : Th → Prop} (hB : (-2147483648 ≤ s0 ∧ s0 < 2147483648) ∧ (∀ (c40 : s0 = 65279), W2_X33_read_49 ω d G l0 l1 l2 s0 (g) Θ Q) ∧ (∀ (c40 : ¬ s0 = 65279), (∀ (c46 : ¬ s0 = 65534), W2_X33_read_54 ω d G l0 l1 l2 s0 0 (g) Θ Q) ∧ (∀ (c46 : s0 = 65534), W2_X33_read_49 ω d G l0 l1 l2 s0 (g) Θ Q))) : W2_X33_read_36 ω d G l0 l1 l2 s0 g Θ Q := sorry
set_option maxHeartbeats 4000000 in
theorem s2_X33_read_49 {ω : AO} {d G : Nat} {l0 l1 l2 l3 : Int} {g : Nat} {Θ : Th} {Q : Th → Prop} (hB : W2_X33_read_54 ω d G l0 l1 l2 l3 1 (g) Θ Q) : W2_X33_read_49 ω d G l0 l1 l2 l3 g Θ Q := sorry
set_option maxHeartbeats 4000000 in
theorem s2_X33_read_54 {ω : AO} {d G : Nat} {l0 l1 l2 l3 s0 : Int} {g : Nat} {Θ : Th} {Q : Th → Prop} (hB : (kd Θ l0 = 44) ∧ ∀ (v57 : Int) (e57 : v57 = gt (vv Θ l0) 0) (r57 : -2147483648 ≤ v57 ∧ v57 < 2147483648), (∀ (c62 : v57 = 7), W2_X33_read_71 ω d G l1 l2 s0 (g) Θ Q) ∧ (∀ (c62 : ¬ v57 = 7), (-2147483648 ≤ l3 ∧ l3 < 2147483648) ∧ (∀ (c68 : ¬ l3 = 65534), W2_X33_read_76 ω d G l1 l2 s0 0 (g) Θ Q) ∧ (∀ (c68 : l3 = 65534), W2_X33_read_71 ω d G l1 l2 s0 (g) Θ Q))) : W2_X33_read_54 ω d G l0 l1 l2 l3 s0 g Θ Q := sorry
set_option maxHeartbeats 4000000 in
theorem s2_X33_read_71 {ω : AO} {d G : Nat} {l1 l2 l4 : Int} {g : Nat} {Θ : Th} {Q : Th → Prop} (hB : W2_X33_read_76 ω d G l1 l2 l4 1 (g) Θ Q) : W2_X33_read_71 ω d G l1 l2 l4 g Θ Q := sorry
set_option maxHeartbeats 4000000 in
theorem s2_X33_read_76 {ω : AO} {d G : Nat} {l1 l2 l4 s0 : Int} {g : Nat} {Θ : Th} {Q : Th → Prop} (hB : (g + 1 ≤ G) ∧ ∀ (v78 : Int) (Θ78 : Th) (u78 : nt Θ ≤ v78 ∧ 0 ≤ v78) (b78 : Bl Θ) (t78 : Θ78 = nu Θ v78 (46, [-1, 0], 0, 0)), (1 ≤ d) ∧ ∃ G83 : Nat, (g + 1 + G83 ≤ G) ∧ w2_X36_init ω (d - 1) G83 v78 l2 Θ78 (fun Θ83 => ∀ (L83 : Le Θ78 Θ83), (-2147483648 ≤ l4 ∧ l4 < 2147483648) ∧ (∀ (c90 : l4 = 0), W2_X33_read_100 ω d G l1 l2 s0 v78 0 (g + 1 + G83) Θ83 Q) ∧ (∀ (c90 : ¬ l4 = 0), W2_X33_read_100 ω d G l1 l2 s0 v78 2 (g + 1 + G83) Θ83 Q))) : W2_X33_read_76 ω d G l1 l2 l4 s0 g Θ Q := sorry
set_option maxHeartbeats 4000000 in
theorem s2_X33_read_100 {ω : AO} {d G : Nat} {l1 l2 l5 l6 l7 : Int} {g : Nat} {Θ : Th} {Q : Th → Prop} (hB : (kd Θ l1 = 19) ∧ ∀ (v105 : Int) (e105 : v105 = len (vv Θ l1)) (r105 : -2147483648 ≤ v105 ∧ v105 < 2147483648), (-2147483648 ≤ (l7 + 1) ∧ (l7 + 1) < 2147483648) ∧ (∀ (c108 : v105 ≤ (l7 + 1)), (1 ≤ d) ∧ (kd Θ l6 = 46) ∧ ∃ G172 : Nat, (g + G172 ≤ G) ∧ w2_X36_end ω (d - 1) G172 l6 Θ (fun Θ172 => ∀ (L172 : Le Θ Θ172), ∀ (v178 : Int) (e178 : v178 = len (vv Θ172 l1)) (r178 : -2147483648 ≤ v178 ∧ v178 < 2147483648), (-2147483648 ≤ l7 ∧ l7 < 2147483648) ∧ (∀ (c181 : v178 ≤ l7), (g + G172 ≤ G) ∧ Q Θ172) ∧ (∀ (c181 : l7 < v178), (kd Θ172 l2 = 19) ∧ (¬ fz Θ172 l2) ∧ (rwC (cp Θ172 l2) (len (vv Θ172 l2)) ≤ 60000000) ∧ (3 ≤ d) ∧ (g + G172 + (rwK (cp Θ172 l2) (len (vv Θ172 l2))).toNat ≤ G) ∧ ∀ (Θ187 : Th) (t187 : Θ187 = uq Θ172 l2 (19, vv Θ172 l2 ++ [(65533 : Int)], rwC (cp Θ172 l2) (len (vv Θ172 l2)), cx Θ172 l2)), Q Θ187))) ∧ (∀ (c108 : (l7 + 1) < v105), (-2147483648 ≤ l5 ∧ l5 < 2147483648) ∧ (∀ (c115 : l5 = 0), (0 ≤ l7 ∧ l7 < len (vv Θ l1)) ∧ ∀ (v147 : Int) (e147 : v147 = gt (vv Θ l1) l7) (r147 : -2147483648 ≤ v147 ∧ v147 < 2147483648), (0 ≤ (l7 + 1) ∧ (l7 + 1) < len (vv Θ l1)) ∧ ∀ (v159 : Int) (e159 : v159 = gt (vv Θ l1) (l7 + 1)) (r159 : -2147483648 ≤ v159 ∧ v159 < 2147483648), W2_X33_read_161 ω d G l1 l2 l5 l6 l7 ((orI (v147 * 256) v159)) l6 (g) Θ Q) ∧ (∀ (c115 : ¬ l5 = 0), (0 ≤ (l7 + 1) ∧ (l7 + 1) < len (vv Θ l1)) ∧ ∀ (v126 : Int) (e126 : v126 = gt (vv Θ l1) (l7 + 1)) (r126 : -2147483648 ≤ v126 ∧ v126 < 2147483648), (0 ≤ l7 ∧ l7 < len (vv Θ l1)) ∧ ∀ (v136 : Int) (e136 : v136 = gt (vv Θ l1) l7) (r136 : -2147483648 ≤ v136 ∧ v136 < 2147483648), W2_X33_read_161 ω d G l1 l2 l5 l6 l7 ((orI (v126 * 256) v136)) l6 (g) Θ Q))) : W2_X33_read_100 ω d G l1 l2 l5 l6 l7 g Θ Q := sorry
set_option maxHeartbeats 4000000 in
theorem s2_X33_read_161 {ω : AO} {d G : Nat} {l1 l2 l5 l6 l7 s0 s1 : Int} {g : Nat} {Θ : Th} {Q : Th → Prop} (hB : (1 ≤ d) ∧ (kd Θ s1 = 46) ∧ ∃ G161 : Nat, (g + G161 ≤ G) ∧ w2_X36_add ω (d - 1) G161 s1 s0 Θ (fun Θ161 => ∀ (L161 : Le Θ Θ161), W2_X33_read_100 ω d G l1 l2 l5 l6 ((l7 + 2)) (g + G161) Θ161 Q)) : W2_X33_read_161 ω d G l1 l2 l5 l6 l7 s0 s1 g Θ Q := sorry
def W2_X34_run_18 (ω : AO) (d G : Nat) (l0 l3 l4 l5 l6 : Int) (g : Nat) (Θ : Th) (Q : Int → Th → Prop) : Prop := Hid (SJ2 ω yX34_run cX34_run 7 (some .int) d G (fun Sz Θz => (eI Sz (q2 ω Θz Q))) 18 [(2, l0), vN, vN, (2, l3), (0, l4), (0, l5), (0, l6)] [] g Θ)
set_option maxHeartbeats 4000000 in
theorem s2_X34_run {ω : AO} {d G : Nat} {l0 l1 l2 : Int} {Θ : Th} {Q : Int → Th → Prop} (hB : (0 + 1 ≤ G) ∧ ∀ (v0 : Int) (Θ0 : Th) (u0 : nt Θ ≤ v0 ∧ 0 ≤ v0) (b0 : Bl Θ) (t0 : Θ0 = nu Θ v0 (46, [-1, 0], 0, 0)), (1 ≤ d) ∧ ∃ G5 : Nat, (0 + 1 + G5 ≤ G) ∧ w2_X36_init ω (d - 1) G5 v0 l2 Θ0 (fun Θ5 => ∀ (L5 : Le Θ0 Θ5), W2_X34_run_18 ω d G l0 v0 0 0 l1 (0 + 1 + G5) Θ5 Q)) : w2_X34_run ω d G l0 l1 l2 Θ Q := sorry
set_option maxHeartbeats 4000000 in
theorem s2_X34_run_18 {ω : AO} {d G : Nat} {l0 l3 l4 l5 l6 : Int} {g : Nat} {Θ : Th} {Q : Int → Th → Prop} (hB : (1 ≤ d) ∧ (kd Θ l0 = 19) ∧ (-2147483648 ≤ l6 ∧ l6 < 2147483648) ∧ (g ≤ G) ∧ ∀ (x21 : Int) (e21 : x21 = atI (vv Θ l0) l6) (r21 : -2147483648 ≤ x21 ∧ x21 < 2147483648), (8 ≤ d) ∧ ∀ (x24 : Int) (e24 : x24 = letF x21) (r24 : -2147483648 ≤ x24 ∧ x24 < 2147483648), (∀ (c27 : x24 < 0), (kd Θ l3 = 46) ∧ ∃ G82 : Nat, (g + G82 ≤ G) ∧ w2_X36_end ω (d - 1) G82 l3 Θ (fun Θ82 => ∀ (L82 : Le Θ Θ82), (g + G82 ≤ G) ∧ ∀ (x88 : Int) (e88 : x88 = atI (vv Θ82 l0) l6) (r88 : -2147483648 ≤ x88 ∧ x88 < 2147483648), (∀ (c93 : ¬ x88 = 45), Q l6 Θ82) ∧ (∀ (c93 : x88 = 45), (-2147483648 ≤ (l6 + 1) ∧ (l6 + 1) < 2147483648) ∧ Q (l6 + 1) Θ82))) ∧ (∀ (c27 : 0 ≤ x24), ∀ (x38 : Int) (e38 : x38 = atI (vv Θ l0) l6) (r38 : -2147483648 ≤ x38 ∧ x38 < 2147483648), ∀ (x41 : Int) (e41 : x41 = letF x38) (r41 : -2147483648 ≤ x41 ∧ x41 < 2147483648), (-2147483648 ≤ (l5 + 6) ∧ (l5 + 6) < 2147483648) ∧ (∀ (c57 : (l5 + 6) < 16), W2_X34_run_18 ω d G l0 l3 (((orI (l4 * 64) x41) % 4194304)) ((l5 + 6)) ((l6 + 1)) (g) Θ Q) ∧ (∀ (c57 : 16 ≤ (l5 + 6)), (kd Θ l3 = 46) ∧ ∃ G72 : Nat, (g + G72 ≤ G) ∧ w2_X36_add ω (d - 1) G72 l3 ((shrI ((orI (l4 * 64) x41) % 4194304) ((l5 + 6) + (-16))) % 65536) Θ (fun Θ72 => ∀ (L72 : Le Θ Θ72), W2_X34_run_18 ω d G l0 l3 (((orI (l4 * 64) x41) % 4194304)) (((l5 + 6) + (-16))) ((l6 + 1)) (g + G72) Θ72 Q)))) : W2_X34_run_18 ω d G l0 l3 l4 l5 l6 g Θ Q := sorry
def W2_X34_read_2 (ω : AO) (d G : Nat) (l1 l2 l3 : Int) (g : Nat) (Θ : Th) (Q : Th → Prop) : Prop := Hid (SJ2 ω yX34_read cX34_read 5 none d G (fun Sz Θz => (eU Sz (q2U ω Θz Q))) 2 [vN, (2, l1), (2, l2), (0, l3), vN] [] g Θ)
def W2_X34_read_43 (ω : AO) (d G : Nat) (l1 l2 l3 s0 s1 : Int) (g : Nat) (Θ : Th) (Q : Th → Prop) : Prop := Hid (SJ2 ω yX34_read cX34_read 5 none d G (fun Sz Θz => (eU Sz (q2U ω Θz Q))) 43 [vN, (2, l1), (2, l2), (0, l3), vN] [(0, s0), (2, s1)] g Θ)
set_option maxHeartbeats 4000000 in
theorem s2_X34_read {ω : AO} {d G : Nat} {l0 l1 l2 : Int} {Θ : Th} {Q : Th → Prop} (hB : W2_X34_read_2 ω d G l1 l2 0 (0) Θ Q) : w2_X34_read ω d G l0 l1 l2 Θ Q := sorry
set_option maxHeartbeats 4000000 in
theorem s2_X34_read_2 {ω : AO} {d G : Nat} {l1 l2 l3 : Int} {g : Nat} {Θ : Th} {Q : Th → Prop} (hB : (kd Θ l1 = 19) ∧ ∀ (v4 : Int) (e4 : v4 = len (vv Θ l1)) (r4 : -2147483648 ≤ v4 ∧ v4 < 2147483648), (-2147483648 ≤ l3 ∧ l3 < 2147483648) ∧ (∀ (c7 : v4 ≤ l3), (g ≤ G) ∧ Q Θ) ∧ (∀ (c7 : l3 < v4), (0 ≤ l3 ∧ l3 < len (vv Θ l1)) ∧ ∀ (v15 : Int) (e15 : v15 = gt (vv Θ l1) l3) (r15 : -2147483648 ≤ v15 ∧ v15 < 2147483648), (∀ (c25 : v15 = 43), (1 ≤ d) ∧ (-2147483648 ≤ (l3 + 1) ∧ (l3 + 1) < 2147483648) ∧ (g ≤ G) ∧ ∀ (x51 : Int) (e51 : x51 = atI (vv Θ l1) (l3 + 1)) (r51 : -2147483648 ≤ x51 ∧ x51 < 2147483648), (∀ (c56 : ¬ x51 = 45), ∃ G74 : Nat, (g + G74 ≤ G) ∧ w2_X34_run ω (d - 1) G74 l1 (l3 + 1) l2 Θ (fun x74 Θ74 => ∀ (L74 : Le Θ Θ74) (r74 : -2147483648 ≤ x74 ∧ x74 < 2147483648), W2_X34_read_2 ω d G l1 l2 x74 (g + G74) Θ74 Q)) ∧ (∀ (c56 : x51 = 45), (kd Θ l2 = 19) ∧ (¬ fz Θ l2) ∧ (rwC (cp Θ l2) (len (vv Θ l2)) ≤ 60000000) ∧ (3 ≤ d) ∧ (g + (rwK (cp Θ l2) (len (vv Θ l2))).toNat ≤ G) ∧ ∀ (Θ62 : Th) (t62 : Θ62 = uq Θ l2 (19, vv Θ l2 ++ [(43 : Int)], rwC (cp Θ l2) (len (vv Θ l2)), cx Θ l2)), W2_X34_read_2 ω d G l1 l2 (((l3 + 1) + 1)) (g + (rwK (cp Θ l2) (len (vv Θ l2))).toNat) Θ62 Q)) ∧ (∀ (c25 : ¬ v15 = 43), (∀ (c33 : v15 ≤ 127), W2_X34_read_43 ω d G l1 l2 ((l3 + 1)) v15 l2 (g) Θ Q) ∧ (∀ (c33 : 127 < v15), W2_X34_read_43 ω d G l1 l2 ((l3 + 1)) 65533 l2 (g) Θ Q)))) : W2_X34_read_2 ω d G l1 l2 l3 g Θ Q := sorry
set_option maxHeartbeats 4000000 in
theorem s2_X34_read_43 {ω : AO} {d G : Nat} {l1 l2 l3 s0 s1 : Int} {g : Nat} {Θ : Th} {Q : Th → Prop} (hB : (1 ≤ d) ∧ (kd Θ s1 = 19) ∧ (¬ fz Θ s1) ∧ (rwC (cp Θ s1) (len (vv Θ s1)) ≤ 60000000) ∧ (-2147483648 ≤ s0 ∧ s0 < 2147483648) ∧ (3 ≤ d) ∧ (g + (rwK (cp Θ s1) (len (vv Θ s1))).toNat ≤ G) ∧ ∀ (Θ43 : Th) (t43 : Θ43 = uq Θ s1 (19, vv Θ s1 ++ [s0], rwC (cp Θ s1) (len (vv Θ s1)), cx Θ s1)), W2_X34_read_2 ω d G l1 l2 l3 (g + (rwK (cp Θ s1) (len (vv Θ s1))).toNat) Θ43 Q) : W2_X34_read_43 ω d G l1 l2 l3 s0 s1 g Θ Q := sorry
def W2_X38_read_8 (ω : AO) (d G : Nat) (l1 l2 l3 l4 l5 : Int) (g : Nat) (Θ : Th) (Q : Th → Prop) : Prop := Hid (SJ2 ω yX38_read cX38_read 7 none d G (fun Sz Θz => (eU Sz (q2U ω Θz Q))) 8 [vN, (2, l1), (2, l2), (0, l3), (0, l4), (0, l5), vN] [] g Θ)
set_option maxHeartbeats 4000000 in
theorem s2_X38_read {ω : AO} {d G : Nat} {l0 l1 l2 : Int} {Θ : Th} {Q : Th → Prop} (hB : W2_X38_read_8 ω d G l1 l2 0 0 0 (0) Θ Q) : w2_X38_read ω d G l0 l1 l2 Θ Q := sorry
set_option maxHeartbeats 4000000 in
theorem s2_X38_read_8 {ω : AO} {d G : Nat} {l1 l2 l3 l4 l5 : Int} {g : Nat} {Θ : Th} {Q : Th → Prop} (hB : (kd Θ l1 = 19) ∧ ∀ (v11 : Int) (e11 : v11 = len (vv Θ l1)) (r11 : -2147483648 ≤ v11 ∧ v11 < 2147483648), (-2147483648 ≤ l5 ∧ l5 < 2147483648) ∧ (∀ (c14 : v11 ≤ l5), (g ≤ G) ∧ Q Θ) ∧ (∀ (c14 : l5 < v11), (0 ≤ l5 ∧ l5 < len (vv Θ l1)) ∧ ∀ (v23 : Int) (e23 : v23 = gt (vv Θ l1) l5) (r23 : -2147483648 ≤ v23 ∧ v23 < 2147483648), (∀ (c26 : v23 = 61), (g ≤ G) ∧ Q Θ) ∧ (∀ (c26 : ¬ v23 = 61), ∀ (v35 : Int) (e35 : v35 = gt (vv Θ l1) l5) (r35 : -2147483648 ≤ v35 ∧ v35 < 2147483648), (1 ≤ d) ∧ (8 ≤ d) ∧ (g ≤ G) ∧ ∀ (x36 : Int) (e36 : x36 = letF v35) (r36 : -2147483648 ≤ x36 ∧ x36 < 2147483648), (∀ (c43 : 0 ≤ x36), (-2147483648 ≤ (l4 + 6) ∧ (l4 + 6) < 2147483648) ∧ (∀ (c67 : 8 ≤ (l4 + 6)), (kd Θ l2 = 19) ∧ (¬ fz Θ l2) ∧ (rwC (cp Θ l2) (len (vv Θ l2)) ≤ 60000000) ∧ (3 ≤ d) ∧ (g + (rwK (cp Θ l2) (len (vv Θ l2))).toNat ≤ G) ∧ ∀ (Θ85 : Th) (t85 : Θ85 = uq Θ l2 (19, vv Θ l2 ++ [((shrI ((orI (l3 * 64) x36) % 65536) ((l4 + 6) + (-8))) % 256)], rwC (cp Θ l2) (len (vv Θ l2)), cx Θ l2)), W2_X38_read_8 ω d G l1 l2 (((orI (l3 * 64) x36) % 65536)) (((l4 + 6) + (-8))) ((l5 + 1)) (g + (rwK (cp Θ l2) (len (vv Θ l2))).toNat) Θ85 Q) ∧ (∀ (c67 : (l4 + 6) < 8), W2_X38_read_8 ω d G l1 l2 (((orI (l3 * 64) x36) % 65536)) ((l4 + 6)) ((l5 + 1)) (g) Θ Q)) ∧ (∀ (c43 : x36 < 0), W2_X38_read_8 ω d G l1 l2 l3 l4 ((l5 + 1)) (g) Θ Q)))) : W2_X38_read_8 ω d G l1 l2 l3 l4 l5 g Θ Q := sorry
def W2_X42_is_15 (ω : AO) (d G : Nat) (l0 l1 l3 l4 : Int) (g : Nat) (Θ : Th) (Q : Int → Th → Prop) : Prop := Hid (SJ2 ω yX42_is cX42_is 5 (some .boolean) d G (fun Sz Θz => (eZ Sz (q2 ω Θz Q))) 15 [(2, l0), (0, l1), vN, (2, l3), (0, l4)] [] g Θ)
set_option maxHeartbeats 4000000 in
theorem s2_X42_is {ω : AO} {d G : Nat} {l0 l1 l2 l3 : Int} {Θ : Th} {Q : Int → Th → Prop} (hB : (1 ≤ d) ∧ (kd Θ l3 = 2) ∧ (2 ≤ d) ∧ ∀ (x4 : Int) (e4 : x4 = len (vv Θ l3)) (r4 : -2147483648 ≤ x4 ∧ x4 < 2147483648), (-2147483648 ≤ (l2 - l1) ∧ (l2 - l1) < 2147483648) ∧ (∀ (c7 : x4 ≤ (l2 - l1)), W2_X42_is_15 ω d G l0 l1 l3 0 (0) Θ Q) ∧ (∀ (c7 : (l2 - l1) < x4), Q 0 Θ)) : w2_X42_is ω d G l0 l1 l2 l3 Θ Q := sorry
set_option maxHeartbeats 4000000 in
theorem s2_X42_is_15 {ω : AO} {d G : Nat} {l0 l1 l3 l4 : Int} {g : Nat} {Θ : Th} {Q : Int → Th → Prop} (hB : (1 ≤ d) ∧ (kd Θ l3 = 2) ∧ (2 ≤ d) ∧ (g ≤ G) ∧ ∀ (x18 : Int) (e18 : x18 = len (vv Θ l3)) (r18 : -2147483648 ≤ x18 ∧ x18 < 2147483648), (-2147483648 ≤ l4 ∧ l4 < 2147483648) ∧ (∀ (c21 : x18 ≤ l4), Q 1 Θ) ∧ (∀ (c21 : l4 < x18), (kd Θ l0 = 19) ∧ (0 ≤ (l1 + l4) ∧ (l1 + l4) < len (vv Θ l0)) ∧ ∀ (v32 : Int) (e32 : v32 = gt (vv Θ l0) (l1 + l4)) (r32 : -2147483648 ≤ v32 ∧ v32 < 2147483648), (0 ≤ l4 ∧ l4 < len (vv Θ l3)) ∧ (5 ≤ d) ∧ ∀ (x36 : Int) (e36 : x36 = gt (vv Θ l3) l4) (r36 : 0 ≤ x36 ∧ x36 < 65536), (∀ (c39 : v32 = x36), W2_X42_is_15 ω d G l0 l1 l3 ((l4 + 1)) (g) Θ Q) ∧ (∀ (c39 : ¬ v32 = x36), Q 0 Θ))) : W2_X42_is_15 ω d G l0 l1 l3 l4 g Θ Q := sorry
def W2_X42_line_58 (ω : AO) (d G : Nat) (l1 l2 l3 l5 s0 : Int) (g : Nat) (Θ : Th) (Q : Int → Th → Prop) : Prop := Hid (SJ2 ω yX42_line cX42_line 10 (some .boolean) d G (fun Sz Θz => (eZ Sz (q2 ω Θz Q))) 58 [vN, (2, l1), (0, l2), (0, l3), vN, (2, l5), vN, vN, vN, vN] [(0, s0)] g Θ)
def W2_X42_line_85 (ω : AO) (d G : Nat) (l1 l2 l3 l5 l6 : Int) (g : Nat) (Θ : Th) (Q : Int → Th → Prop) : Prop := Hid (SJ2 ω yX42_line cX42_line 10 (some .boolean) d G (fun Sz Θz => (eZ Sz (q2 ω Θz Q))) 85 [vN, (2, l1), (0, l2), (0, l3), vN, (2, l5), (0, l6), vN, vN, vN] [] g Θ)
def W2_X42_line_90 (ω : AO) (d G : Nat) (l1 l3 l5 l6 l7 : Int) (g : Nat) (Θ : Th) (Q : Int → Th → Prop) : Prop := Hid (SJ2 ω yX42_line cX42_line 10 (some .boolean) d G (fun Sz Θz => (eZ Sz (q2 ω Θz Q))) 90 [vN, (2, l1), vN, (0, l3), vN, (2, l5), (0, l6), (0, l7), vN, vN] [] g Θ)
def W2_X42_line_107 (ω : AO) (d G : Nat) (l1 l3 l5 l6 l7 l8 l9 : Int) (g : Nat) (Θ : Th) (Q : Int → Th → Prop) : Prop := Hid (SJ2 ω yX42_line cX42_line 10 (some .boolean) d G (fun Sz Θz => (eZ Sz (q2 ω Θz Q))) 107 [vN, (2, l1), vN, (0, l3), vN, (2, l5), (0, l6), (0, l7), (0, l8), (0, l9)] [] g Θ)
def W2_X42_line_160 (ω : AO) (d G : Nat) (l1 l3 l5 l6 l7 l8 l9 : Int) (g : Nat) (Θ : Th) (Q : Int → Th → Prop) : Prop := Hid (SJ2 ω yX42_line cX42_line 10 (some .boolean) d G (fun Sz Θz => (eZ Sz (q2 ω Θz Q))) 160 [vN, (2, l1), vN, (0, l3), vN, (2, l5), (0, l6), (0, l7), (0, l8), (0, l9)] [] g Θ)
def W2_X42_line_147 (ω : AO) (d G : Nat) (l1 l3 l5 l6 l7 l9 s0 s1 : Int) (g : Nat) (Θ : Th) (Q : Int → Th → Prop) : Prop := Hid (SJ2 ω yX42_line cX42_line 10 (some .boolean) d G (fun Sz Θz => (eZ Sz (q2 ω Θz Q))) 147 [vN, (2, l1), vN, (0, l3), vN, (2, l5), (0, l6), (0, l7), vN, (0, l9)] [(0, s0), (0, s1)] g Θ)
set_option maxHeartbeats 4000000 in
theorem s2_X42_line {ω : AO} {d G : Nat} {l0 l1 l2 l3 l4 l5 : Int} {Θ : Th} {Q : Int → Th → Prop} (hB : (kd Θ l0 = 48) ∧ ∀ (v1 : Int) (e1 : v1 = gt (vv Θ l0) 0) (r1 : 0 ≤ v1 ∧ v1 < 2), (∀ (c4 : ¬ v1 = 0), (-2147483648 ≤ l2 ∧ l2 < 2147483648) ∧ (-2147483648 ≤ l3 ∧ l3 < 2147483648) ∧ (∀ (c39 : l3 ≤ l2), W2_X42_line_58 ω d G l1 l2 l3 l5 0 (0) Θ Q) ∧ (∀ (c39 : l2 < l3), (kd Θ l1 = 19) ∧ (0 ≤ l2 ∧ l2 < len (vv Θ l1)) ∧ ∀ (v47 : Int) (e47 : v47 = gt (vv Θ l1) l2) (r47 : -2147483648 ≤ v47 ∧ v47 < 2147483648), W2_X42_line_58 ω d G l1 l2 l3 l5 (((v47 - 32) % 64)) (0) Θ Q)) ∧ (∀ (c4 : v1 = 0), ∀ (v11 : Int) (h11 : Str Θ v11 [98, 101, 103, 105, 110, 32]), (1 ≤ d) ∧ ∃ G13 : Nat, (0 + G13 ≤ G) ∧ w2_X42_is ω (d - 1) G13 l1 l2 l3 v11 Θ (fun x13 Θ13 => ∀ (L13 : Le Θ Θ13) (r13 : x13 = 0 ∨ x13 = 1), (∀ (c16 : x13 = 0), (¬ fz Θ13 l0) ∧ ∀ (Θ32 : Th) (t32 : Θ32 = pf Θ13 l0 0 0), (0 + G13 ≤ G) ∧ Q 1 Θ32) ∧ (∀ (c16 : ¬ x13 = 0), (-2147483648 ≤ (l3 - l2) ∧ (l3 - l2) < 2147483648) ∧ (∀ (c24 : (l3 - l2) ≤ 6), (¬ fz Θ13 l0) ∧ ∀ (Θ32 : Th) (t32 : Θ32 = pf Θ13 l0 0 0), (0 + G13 ≤ G) ∧ Q 1 Θ32) ∧ (∀ (c24 : 6 < (l3 - l2)), (¬ fz Θ13 l0) ∧ ∀ (Θ32 : Th) (t32 : Θ32 = pf Θ13 l0 0 1), (0 + G13 ≤ G) ∧ Q 1 Θ32))))) : w2_X42_line ω d G l0 l1 l2 l3 l4 l5 Θ Q := sorry
set_option maxHeartbeats 4000000 in
theorem s2_X42_line_58 {ω : AO} {d G : Nat} {l1 l2 l3 l5 s0 : Int} {g : Nat} {Θ : Th} {Q : Int → Th → Prop} (hB : (-2147483648 ≤ s0 ∧ s0 < 2147483648) ∧ (∀ (c62 : s0 = 0), (g ≤ G) ∧ Q 0 Θ) ∧ (∀ (c62 : ¬ s0 = 0), (-2147483648 ≤ (l3 - l2) ∧ (l3 - l2) < 2147483648) ∧ (∀ (c69 : ¬ (l3 - l2) = 3), W2_X42_line_85 ω d G l1 l2 l3 l5 s0 (g) Θ Q) ∧ (∀ (c69 : (l3 - l2) = 3), ∀ (v75 : Int) (h75 : Str Θ v75 [101, 110, 100]), (1 ≤ d) ∧ ∃ G77 : Nat, (g + G77 ≤ G) ∧ w2_X42_is ω (d - 1) G77 l1 l2 l3 v75 Θ (fun x77 Θ77 => ∀ (L77 : Le Θ Θ77) (r77 : x77 = 0 ∨ x77 = 1), (∀ (c80 : x77 = 0), W2_X42_line_85 ω d G l1 l2 l3 l5 s0 (g + G77) Θ77 Q) ∧ (∀ (c80 : ¬ x77 = 0), (g + G77 ≤ G) ∧ Q 0 Θ77))))) : W2_X42_line_58 ω d G l1 l2 l3 l5 s0 g Θ Q := sorry
set_option maxHeartbeats 4000000 in
theorem s2_X42_line_85 {ω : AO} {d G : Nat} {l1 l2 l3 l5 l6 : Int} {g : Nat} {Θ : Th} {Q : Int → Th → Prop} (hB : W2_X42_line_90 ω d G l1 l3 l5 l6 ((l2 + 1)) (g) Θ Q) : W2_X42_line_85 ω d G l1 l2 l3 l5 l6 g Θ Q := sorry
set_option maxHeartbeats 4000000 in
theorem s2_X42_line_90 {ω : AO} {d G : Nat} {l1 l3 l5 l6 l7 : Int} {g : Nat} {Θ : Th} {Q : Int → Th → Prop} (hB : (-2147483648 ≤ l7 ∧ l7 < 2147483648) ∧ (-2147483648 ≤ l3 ∧ l3 < 2147483648) ∧ (∀ (c93 : l3 ≤ l7), (g ≤ G) ∧ Q 1 Θ) ∧ (∀ (c93 : l7 < l3), (-2147483648 ≤ l6 ∧ l6 < 2147483648) ∧ (∀ (c98 : l6 ≤ 0), (g ≤ G) ∧ Q 1 Θ) ∧ (∀ (c98 : 0 < l6), W2_X42_line_107 ω d G l1 l3 l5 l6 l7 0 0 (g) Θ Q))) : W2_X42_line_90 ω d G l1 l3 l5 l6 l7 g Θ Q := sorry
set_option maxHeartbeats 4000000 in
theorem s2_X42_line_107 {ω : AO} {d G : Nat} {l1 l3 l5 l6 l7 l8 l9 : Int} {g : Nat} {Θ : Th} {Q : Int → Th → Prop} (hB : (-2147483648 ≤ l9 ∧ l9 < 2147483648) ∧ (∀ (c110 : 4 ≤ l9), W2_X42_line_160 ω d G l1 l3 l5 l6 l7 l8 16 (g) Θ Q) ∧ (∀ (c110 : l9 < 4), (-2147483648 ≤ (l7 + l9) ∧ (l7 + l9) < 2147483648) ∧ (-2147483648 ≤ l3 ∧ l3 < 2147483648) ∧ (∀ (c124 : l3 ≤ (l7 + l9)), W2_X42_line_147 ω d G l1 l3 l5 l6 l7 l9 0 ((l8 * 64)) (g) Θ Q) ∧ (∀ (c124 : (l7 + l9) < l3), (kd Θ l1 = 19) ∧ (0 ≤ (l7 + l9) ∧ (l7 + l9) < len (vv Θ l1)) ∧ ∀ (v136 : Int) (e136 : v136 = gt (vv Θ l1) (l7 + l9)) (r136 : -2147483648 ≤ v136 ∧ v136 < 2147483648), W2_X42_line_147 ω d G l1 l3 l5 l6 l7 l9 (((v136 - 32) % 64)) ((l8 * 64)) (g) Θ Q))) : W2_X42_line_107 ω d G l1 l3 l5 l6 l7 l8 l9 g Θ Q := sorry
set_option maxHeartbeats 4000000 in
theorem s2_X42_line_160 {ω : AO} {d G : Nat} {l1 l3 l5 l6 l7 l8 l9 : Int} {g : Nat} {Θ : Th} {Q : Int → Th → Prop} (hB : (-2147483648 ≤ l9 ∧ l9 < 2147483648) ∧ (∀ (c162 : l9 < 0), W2_X42_line_90 ω d G l1 l3 l5 l6 ((l7 + 4)) (g) Θ Q) ∧ (∀ (c162 : 0 ≤ l9), (-2147483648 ≤ l6 ∧ l6 < 2147483648) ∧ (∀ (c167 : l6 ≤ 0), W2_X42_line_90 ω d G l1 l3 l5 l6 ((l7 + 4)) (g) Θ Q) ∧ (∀ (c167 : 0 < l6), (1 ≤ d) ∧ (kd Θ l5 = 19) ∧ (¬ fz Θ l5) ∧ (rwC (cp Θ l5) (len (vv Θ l5)) ≤ 60000000) ∧ (3 ≤ d) ∧ (g + (rwK (cp Θ l5) (len (vv Θ l5))).toNat ≤ G) ∧ ∀ (Θ181 : Th) (t181 : Θ181 = uq Θ l5 (19, vv Θ l5 ++ [((shrI l8 l9) % 256)], rwC (cp Θ l5) (len (vv Θ l5)), cx Θ l5)), W2_X42_line_160 ω d G l1 l3 l5 ((l6 + (-1))) l7 l8 ((l9 + (-8))) (g + (rwK (cp Θ l5) (len (vv Θ l5))).toNat) Θ181 Q))) : W2_X42_line_160 ω d G l1 l3 l5 l6 l7 l8 l9 g Θ Q := sorry
set_option maxHeartbeats 4000000 in
theorem s2_X42_line_147 {ω : AO} {d G : Nat} {l1 l3 l5 l6 l7 l9 s0 s1 : Int} {g : Nat} {Θ : Th} {Q : Int → Th → Prop} (hB : W2_X42_line_107 ω d G l1 l3 l5 l6 l7 ((orI s1 s0)) ((l9 + 1)) (g) Θ Q) : W2_X42_line_147 ω d G l1 l3 l5 l6 l7 l9 s0 s1 g Θ Q := sorry
def W2_X41_line_3 (ω : AO) (d G : Nat) (l1 l2 l4 l5 l6 : Int) (g : Nat) (Θ : Th) (Q : Int → Th → Prop) : Prop := Hid (SJ2 ω yX41_line cX41_line 10 (some .boolean) d G (fun Sz Θz => (eZ Sz (q2 ω Θz Q))) 3 [vN, (2, l1), (0, l2), vN, (0, l4), (2, l5), (0, l6), vN, vN, vN] [] g Θ)
def W2_X41_line_30 (ω : AO) (d G : Nat) (l1 l2 l4 l5 l6 : Int) (g : Nat) (Θ : Th) (Q : Int → Th → Prop) : Prop := Hid (SJ2 ω yX41_line cX41_line 10 (some .boolean) d G (fun Sz Θz => (eZ Sz (q2 ω Θz Q))) 30 [vN, (2, l1), (0, l2), vN, (0, l4), (2, l5), (0, l6), vN, vN, vN] [] g Θ)
def W2_X41_line_54 (ω : AO) (d G : Nat) (l1 l2 l4 l5 l6 : Int) (g : Nat) (Θ : Th) (Q : Int → Th → Prop) : Prop := Hid (SJ2 ω yX41_line cX41_line 10 (some .boolean) d G (fun Sz Θz => (eZ Sz (q2 ω Θz Q))) 54 [vN, (2, l1), (0, l2), vN, (0, l4), (2, l5), (0, l6), vN, vN, vN] [] g Θ)
def W2_X41_line_55 (ω : AO) (d G : Nat) (l1 l2 l4 l5 l6 s0 : Int) (g : Nat) (Θ : Th) (Q : Int → Th → Prop) : Prop := Hid (SJ2 ω yX41_line cX41_line 10 (some .boolean) d G (fun Sz Θz => (eZ Sz (q2 ω Θz Q))) 55 [vN, (2, l1), (0, l2), vN, (0, l4), (2, l5), (0, l6), vN, vN, vN] [(0, s0)] g Θ)
def W2_X41_line_68 (ω : AO) (d G : Nat) (l1 l4 l5 l6 l7 l8 : Int) (g : Nat) (Θ : Th) (Q : Int → Th → Prop) : Prop := Hid (SJ2 ω yX41_line cX41_line 10 (some .boolean) d G (fun Sz Θz => (eZ Sz (q2 ω Θz Q))) 68 [vN, (2, l1), vN, vN, (0, l4), (2, l5), (0, l6), (0, l7), (0, l8), vN] [] g Θ)
def W2_X41_line_107 (ω : AO) (d G : Nat) (l1 l4 l5 l6 l7 l8 : Int) (g : Nat) (Θ : Th) (Q : Int → Th → Prop) : Prop := Hid (SJ2 ω yX41_line cX41_line 10 (some .boolean) d G (fun Sz Θz => (eZ Sz (q2 ω Θz Q))) 107 [vN, (2, l1), vN, vN, (0, l4), (2, l5), (0, l6), (0, l7), (0, l8), vN] [] g Θ)
def W2_X41_line_108 (ω : AO) (d G : Nat) (l1 l4 l5 l6 l7 l8 s0 : Int) (g : Nat) (Θ : Th) (Q : Int → Th → Prop) : Prop := Hid (SJ2 ω yX41_line cX41_line 10 (some .boolean) d G (fun Sz Θz => (eZ Sz (q2 ω Θz Q))) 108 [vN, (2, l1), vN, vN, (0, l4), (2, l5), (0, l6), (0, l7), (0, l8), vN] [(0, s0)] g Θ)
def W2_X41_line_129 (ω : AO) (d G : Nat) (l1 l4 l5 l6 l7 l8 l9 s0 s1 : Int) (g : Nat) (Θ : Th) (Q : Int → Th → Prop) : Prop := Hid (SJ2 ω yX41_line cX41_line 10 (some .boolean) d G (fun Sz Θz => (eZ Sz (q2 ω Θz Q))) 129 [vN, (2, l1), vN, vN, (0, l4), (2, l5), (0, l6), (0, l7), (0, l8), (0, l9)] [(0, s0), (2, s1)] g Θ)
set_option maxHeartbeats 4000000 in
theorem s2_X41_line {ω : AO} {d G : Nat} {l0 l1 l2 l3 l4 l5 : Int} {Θ : Th} {Q : Int → Th → Prop} (hB : W2_X41_line_3 ω d G l1 l2 l4 l5 l3 (0) Θ Q) : w2_X41_line ω d G l0 l1 l2 l3 l4 l5 Θ Q := sorry
set_option maxHeartbeats 4000000 in
theorem s2_X41_line_3 {ω : AO} {d G : Nat} {l1 l2 l4 l5 l6 : Int} {g : Nat} {Θ : Th} {Q : Int → Th → Prop} (hB : (-2147483648 ≤ l6 ∧ l6 < 2147483648) ∧ (-2147483648 ≤ l2 ∧ l2 < 2147483648) ∧ (∀ (c6 : l6 ≤ l2), W2_X41_line_30 ω d G l1 l2 l4 l5 l6 (g) Θ Q) ∧ (∀ (c6 : l2 < l6), (kd Θ l1 = 19) ∧ (0 ≤ (l6 - 1) ∧ (l6 - 1) < len (vv Θ l1)) ∧ ∀ (v17 : Int) (e17 : v17 = gt (vv Θ l1) (l6 - 1)) (r17 : -2147483648 ≤ v17 ∧ v17 < 2147483648), (1 ≤ d) ∧ (g ≤ G) ∧ ∀ (x18 : Int) (e18 : x18 = if chBl v17 then 1 else 0) (r18 : x18 = 0 ∨ x18 = 1), (∀ (c21 : x18 = 0), W2_X41_line_30 ω d G l1 l2 l4 l5 l6 (g) Θ Q) ∧ (∀ (c21 : ¬ x18 = 0), W2_X41_line_3 ω d G l1 l2 l4 l5 ((l6 + (-1))) (g) Θ Q))) : W2_X41_line_3 ω d G l1 l2 l4 l5 l6 g Θ Q := sorry
set_option maxHeartbeats 4000000 in
theorem s2_X41_line_30 {ω : AO} {d G : Nat} {l1 l2 l4 l5 l6 : Int} {g : Nat} {Θ : Th} {Q : Int → Th → Prop} (hB : (-2147483648 ≤ l6 ∧ l6 < 2147483648) ∧ (-2147483648 ≤ l2 ∧ l2 < 2147483648) ∧ (∀ (c33 : l6 ≤ l2), W2_X41_line_54 ω d G l1 l2 l4 l5 l6 (g) Θ Q) ∧ (∀ (c33 : l2 < l6), (kd Θ l1 = 19) ∧ (0 ≤ (l6 - 1) ∧ (l6 - 1) < len (vv Θ l1)) ∧ ∀ (v44 : Int) (e44 : v44 = gt (vv Θ l1) (l6 - 1)) (r44 : -2147483648 ≤ v44 ∧ v44 < 2147483648), (∀ (c47 : ¬ v44 = 61), W2_X41_line_54 ω d G l1 l2 l4 l5 l6 (g) Θ Q) ∧ (∀ (c47 : v44 = 61), W2_X41_line_55 ω d G l1 l2 l4 l5 l6 1 (g) Θ Q))) : W2_X41_line_30 ω d G l1 l2 l4 l5 l6 g Θ Q := sorry
set_option maxHeartbeats 4000000 in
theorem s2_X41_line_54 {ω : AO} {d G : Nat} {l1 l2 l4 l5 l6 : Int} {g : Nat} {Θ : Th} {Q : Int → Th → Prop} (hB : W2_X41_line_55 ω d G l1 l2 l4 l5 l6 0 (g) Θ Q) : W2_X41_line_54 ω d G l1 l2 l4 l5 l6 g Θ Q := sorry
set_option maxHeartbeats 4000000 in
theorem s2_X41_line_55 {ω : AO} {d G : Nat} {l1 l2 l4 l5 l6 s0 : Int} {g : Nat} {Θ : Th} {Q : Int → Th → Prop} (hB : (-2147483648 ≤ s0 ∧ s0 < 2147483648) ∧ (∀ (c59 : s0 = 0), W2_X41_line_68 ω d G l1 l4 l5 l6 s0 l2 (g) Θ Q) ∧ (∀ (c59 : ¬ s0 = 0), W2_X41_line_68 ω d G l1 l4 l5 ((l6 + (-1))) s0 l2 (g) Θ Q)) : W2_X41_line_55 ω d G l1 l2 l4 l5 l6 s0 g Θ Q := sorry
set_option maxHeartbeats 4000000 in
theorem s2_X41_line_68 {ω : AO} {d G : Nat} {l1 l4 l5 l6 l7 l8 : Int} {g : Nat} {Θ : Th} {Q : Int → Th → Prop} (hB : (-2147483648 ≤ l8 ∧ l8 < 2147483648) ∧ (-2147483648 ≤ l6 ∧ l6 < 2147483648) ∧ (∀ (c72 : l6 ≤ l8), (-2147483648 ≤ l4 ∧ l4 < 2147483648) ∧ (∀ (c148 : l4 = 0), (g ≤ G) ∧ Q 1 Θ) ∧ (∀ (c148 : ¬ l4 = 0), (-2147483648 ≤ l7 ∧ l7 < 2147483648) ∧ (∀ (c153 : ¬ l7 = 0), (g ≤ G) ∧ Q 1 Θ) ∧ (∀ (c153 : l7 = 0), (1 ≤ d) ∧ (kd Θ l5 = 19) ∧ (¬ fz Θ l5) ∧ (rwC (cp Θ l5) (len (vv Θ l5)) ≤ 60000000) ∧ (3 ≤ d) ∧ (g + (rwK (cp Θ l5) (len (vv Θ l5))).toNat ≤ G) ∧ ∀ (Θ160 : Th) (t160 : Θ160 = uq Θ l5 (19, vv Θ l5 ++ [(13 : Int)], rwC (cp Θ l5) (len (vv Θ l5)), cx Θ l5)), (rwC (cp Θ160 l5) (len (vv Θ160 l5)) ≤ 60000000) ∧ (g + (rwK (cp Θ l5) (len (vv Θ l5))).toNat + (rwK (cp Θ160 l5) (len (vv Θ160 l5))).toNat ≤ G) ∧ ∀ (Θ167 : Th) (t167 : Θ167 = uq Θ160 l5 (19, vv Θ160 l5 ++ [(10 : Int)], rwC (cp Θ160 l5) (len (vv Θ160 l5)), cx Θ160 l5)), Q 1 Θ167))) ∧ (∀ (c72 : l8 < l6), (kd Θ l1 = 19) ∧ (0 ≤ l8 ∧ l8 < len (vv Θ l1)) ∧ ∀ (v81 : Int) (e81 : v81 = gt (vv Θ l1) l8) (r81 : -2147483648 ≤ v81 ∧ v81 < 2147483648), (∀ (c84 : ¬ v81 = 61), W2_X41_line_107 ω d G l1 l4 l5 l6 l7 l8 (g) Θ Q) ∧ (∀ (c84 : v81 = 61), (-2147483648 ≤ (l8 + 2) ∧ (l8 + 2) < 2147483648) ∧ (∀ (c93 : l6 ≤ (l8 + 2)), W2_X41_line_107 ω d G l1 l4 l5 l6 l7 l8 (g) Θ Q) ∧ (∀ (c93 : (l8 + 2) < l6), (1 ≤ d) ∧ (-1000000 ≤ (l8 + 1) ∧ (l8 + 1) ≤ 1000000000) ∧ (3 ≤ d) ∧ (g ≤ G) ∧ ∀ (x101 : Int) (e101 : x101 = hbF (vv Θ l1) (l8 + 1)) (r101 : -2147483648 ≤ x101 ∧ x101 < 2147483648), W2_X41_line_108 ω d G l1 l4 l5 l6 l7 l8 x101 (g) Θ Q)))) : W2_X41_line_68 ω d G l1 l4 l5 l6 l7 l8 g Θ Q := sorry
set_option maxHeartbeats 4000000 in
theorem s2_X41_line_107 {ω : AO} {d G : Nat} {l1 l4 l5 l6 l7 l8 : Int} {g : Nat} {Θ : Th} {Q : Int → Th → Prop} (hB : W2_X41_line_108 ω d G l1 l4 l5 l6 l7 l8 ((-1)) (g) Θ Q) : W2_X41_line_107 ω d G l1 l4 l5 l6 l7 l8 g Θ Q := sorry
set_option maxHeartbeats 4000000 in
theorem s2_X41_line_108 {ω : AO} {d G : Nat} {l1 l4 l5 l6 l7 l8 s0 : Int} {g : Nat} {Θ : Th} {Q : Int → Th → Prop} (hB : (-2147483648 ≤ s0 ∧ s0 < 2147483648) ∧ (∀ (c114 : 0 ≤ s0), W2_X41_line_129 ω d G l1 l4 l5 l6 l7 l8 s0 s0 l5 (g) Θ Q) ∧ (∀ (c114 : s0 < 0), (kd Θ l1 = 19) ∧ (0 ≤ l8 ∧ l8 < len (vv Θ l1)) ∧ ∀ (v123 : Int) (e123 : v123 = gt (vv Θ l1) l8) (r123 : -2147483648 ≤ v123 ∧ v123 < 2147483648), W2_X41_line_129 ω d G l1 l4 l5 l6 l7 l8 s0 v123 l5 (g) Θ Q)) : W2_X41_line_108 ω d G l1 l4 l5 l6 l7 l8 s0 g Θ Q := sorry
set_option maxHeartbeats 4000000 in
theorem s2_X41_line_129 {ω : AO} {d G : Nat} {l1 l4 l5 l6 l7 l8 l9 s0 s1 : Int} {g : Nat} {Θ : Th} {Q : Int → Th → Prop} (hB : (1 ≤ d) ∧ (kd Θ s1 = 19) ∧ (¬ fz Θ s1) ∧ (rwC (cp Θ s1) (len (vv Θ s1)) ≤ 60000000) ∧ (-2147483648 ≤ s0 ∧ s0 < 2147483648) ∧ (3 ≤ d) ∧ (g + (rwK (cp Θ s1) (len (vv Θ s1))).toNat ≤ G) ∧ ∀ (Θ129 : Th) (t129 : Θ129 = uq Θ s1 (19, vv Θ s1 ++ [s0], rwC (cp Θ s1) (len (vv Θ s1)), cx Θ s1)), (-2147483648 ≤ l9 ∧ l9 < 2147483648) ∧ (∀ (c134 : l9 < 0), W2_X41_line_68 ω d G l1 l4 l5 l6 l7 ((l8 + 1)) (g + (rwK (cp Θ s1) (len (vv Θ s1))).toNat) Θ129 Q) ∧ (∀ (c134 : 0 ≤ l9), W2_X41_line_68 ω d G l1 l4 l5 l6 l7 (((l8 + 2) + 1)) (g + (rwK (cp Θ s1) (len (vv Θ s1))).toNat) Θ129 Q)) : W2_X41_line_129 ω d G l1 l4 l5 l6 l7 l8 l9 s0 s1 g Θ Q := sorry
def W2_X40_read_2 (ω : AO) (d G : Nat) (l0 l1 l2 l3 : Int) (g : Nat) (Θ : Th) (Q : Th → Prop) : Prop := Hid (SJ2 ω yX40_read cX40_read 7 none d G (fun Sz Θz => (eU Sz (q2U ω Θz Q))) 2 [(2, l0), (2, l1), (2, l2), (0, l3), vN, vN, vN] [] g Θ)
def W2_X40_read_13 (ω : AO) (d G : Nat) (l0 l1 l2 l3 l4 : Int) (g : Nat) (Θ : Th) (Q : Th → Prop) : Prop := Hid (SJ2 ω yX40_read cX40_read 7 none d G (fun Sz Θz => (eU Sz (q2U ω Θz Q))) 13 [(2, l0), (2, l1), (2, l2), (0, l3), (0, l4), vN, vN] [] g Θ)
def W2_X40_read_40 (ω : AO) (d G : Nat) (l0 l1 l2 l3 l4 : Int) (g : Nat) (Θ : Th) (Q : Th → Prop) : Prop := Hid (SJ2 ω yX40_read cX40_read 7 none d G (fun Sz Θz => (eU Sz (q2U ω Θz Q))) 40 [(2, l0), (2, l1), (2, l2), (0, l3), (0, l4), vN, vN] [] g Θ)
def W2_X40_read_54 (ω : AO) (d G : Nat) (l0 l1 l2 l3 l4 s0 : Int) (g : Nat) (Θ : Th) (Q : Th → Prop) : Prop := Hid (SJ2 ω yX40_read cX40_read 7 none d G (fun Sz Θz => (eU Sz (q2U ω Θz Q))) 54 [(2, l0), (2, l1), (2, l2), (0, l3), (0, l4), vN, vN] [(0, s0)] g Θ)
def W2_X40_read_88 (ω : AO) (d G : Nat) (l0 l1 l2 l3 l4 l5 : Int) (g : Nat) (Θ : Th) (Q : Th → Prop) : Prop := Hid (SJ2 ω yX40_read cX40_read 7 none d G (fun Sz Θz => (eU Sz (q2U ω Θz Q))) 88 [(2, l0), (2, l1), (2, l2), (0, l3), (0, l4), (0, l5), vN] [] g Θ)
def W2_X40_read_90 (ω : AO) (d G : Nat) (l0 l1 l2 l3 l4 l5 s0 : Int) (g : Nat) (Θ : Th) (Q : Th → Prop) : Prop := Hid (SJ2 ω yX40_read cX40_read 7 none d G (fun Sz Θz => (eU Sz (q2U ω Θz Q))) 90 [(2, l0), (2, l1), (2, l2), (0, l3), (0, l4), (0, l5), vN] [(0, s0)] g Θ)
set_option maxHeartbeats 4000000 in
theorem s2_X40_read {ω : AO} {d G : Nat} {l0 l1 l2 : Int} {Θ : Th} {Q : Th → Prop} (hB : W2_X40_read_2 ω d G l0 l1 l2 0 (0) Θ Q) : w2_X40_read ω d G l0 l1 l2 Θ Q := sorry
set_option maxHeartbeats 4000000 in
theorem s2_X40_read_2 {ω : AO} {d G : Nat} {l0 l1 l2 l3 : Int} {g : Nat} {Θ : Th} {Q : Th → Prop} (hB : (kd Θ l1 = 19) ∧ ∀ (v4 : Int) (e4 : v4 = len (vv Θ l1)) (r4 : -2147483648 ≤ v4 ∧ v4 < 2147483648), (-2147483648 ≤ l3 ∧ l3 < 2147483648) ∧ (∀ (c7 : v4 ≤ l3), (g ≤ G) ∧ Q Θ) ∧ (∀ (c7 : l3 < v4), W2_X40_read_13 ω d G l0 l1 l2 l3 l3 (g) Θ Q)) : W2_X40_read_2 ω d G l0 l1 l2 l3 g Θ Q := sorry
set_option maxHeartbeats 4000000 in
theorem s2_X40_read_13 {ω : AO} {d G : Nat} {l0 l1 l2 l3 l4 : Int} {g : Nat} {Θ : Th} {Q : Th → Prop} (hB : (kd Θ l1 = 19) ∧ ∀ (v16 : Int) (e16 : v16 = len (vv Θ l1)) (r16 : -2147483648 ≤ v16 ∧ v16 < 2147483648), (-2147483648 ≤ l4 ∧ l4 < 2147483648) ∧ (∀ (c19 : v16 ≤ l4), W2_X40_read_40 ω d G l0 l1 l2 l3 l4 (g) Θ Q) ∧ (∀ (c19 : l4 < v16), (0 ≤ l4 ∧ l4 < len (vv Θ l1)) ∧ ∀ (v28 : Int) (e28 : v28 = gt (vv Θ l1) l4) (r28 : -2147483648 ≤ v28 ∧ v28 < 2147483648), (∀ (c31 : v28 = 10), W2_X40_read_40 ω d G l0 l1 l2 l3 l4 (g) Θ Q) ∧ (∀ (c31 : ¬ v28 = 10), W2_X40_read_13 ω d G l0 l1 l2 l3 ((l4 + 1)) (g) Θ Q))) : W2_X40_read_13 ω d G l0 l1 l2 l3 l4 g Θ Q := sorry
set_option maxHeartbeats 4000000 in
theorem s2_X40_read_40 {ω : AO} {d G : Nat} {l0 l1 l2 l3 l4 : Int} {g : Nat} {Θ : Th} {Q : Th → Prop} (hB : (kd Θ l1 = 19) ∧ ∀ (v43 : Int) (e43 : v43 = len (vv Θ l1)) (r43 : -2147483648 ≤ v43 ∧ v43 < 2147483648), (-2147483648 ≤ l4 ∧ l4 < 2147483648) ∧ (∀ (c46 : v43 ≤ l4), W2_X40_read_54 ω d G l0 l1 l2 l3 l4 0 (g) Θ Q) ∧ (∀ (c46 : l4 < v43), W2_X40_read_54 ω d G l0 l1 l2 l3 l4 1 (g) Θ Q)) : W2_X40_read_40 ω d G l0 l1 l2 l3 l4 g Θ Q := sorry
set_option maxHeartbeats 4000000 in
theorem s2_X40_read_54 {ω : AO} {d G : Nat} {l0 l1 l2 l3 l4 s0 : Int} {g : Nat} {Θ : Th} {Q : Th → Prop} (hB : (-2147483648 ≤ s0 ∧ s0 < 2147483648) ∧ (∀ (c58 : s0 = 0), W2_X40_read_88 ω d G l0 l1 l2 l3 l4 s0 (g) Θ Q) ∧ (∀ (c58 : ¬ s0 = 0), (-2147483648 ≤ l4 ∧ l4 < 2147483648) ∧ (-2147483648 ≤ l3 ∧ l3 < 2147483648) ∧ (∀ (c64 : l4 ≤ l3), W2_X40_read_88 ω d G l0 l1 l2 l3 l4 s0 (g) Θ Q) ∧ (∀ (c64 : l3 < l4), (kd Θ l1 = 19) ∧ (0 ≤ (l4 - 1) ∧ (l4 - 1) < len (vv Θ l1)) ∧ ∀ (v75 : Int) (e75 : v75 = gt (vv Θ l1) (l4 - 1)) (r75 : -2147483648 ≤ v75 ∧ v75 < 2147483648), (∀ (c78 : ¬ v75 = 13), W2_X40_read_88 ω d G l0 l1 l2 l3 l4 s0 (g) Θ Q) ∧ (∀ (c78 : v75 = 13), W2_X40_read_90 ω d G l0 l1 l2 l3 l4 s0 ((l4 - 1)) (g) Θ Q)))) : W2_X40_read_54 ω d G l0 l1 l2 l3 l4 s0 g Θ Q := sorry
set_option maxHeartbeats 4000000 in
theorem s2_X40_read_88 {ω : AO} {d G : Nat} {l0 l1 l2 l3 l4 l5 : Int} {g : Nat} {Θ : Th} {Q : Th → Prop} (hB : W2_X40_read_90 ω d G l0 l1 l2 l3 l4 l5 l4 (g) Θ Q) : W2_X40_read_88 ω d G l0 l1 l2 l3 l4 l5 g Θ Q := sorry
set_option maxHeartbeats 4000000 in
theorem s2_X40_read_90 {ω : AO} {d G : Nat} {l0 l1 l2 l3 l4 l5 s0 : Int} {g : Nat} {Θ : Th} {Q : Th → Prop} (hB : (1 ≤ d) ∧ (((kd Θ l0 = 48) ∧ ∃ G100 : Nat, (g + G100 ≤ G) ∧ w2_X42_line ω (d - 1) G100 l0 l1 l3 s0 l5 l2 Θ (fun x100 Θ100 => ∀ (L100 : Le Θ Θ100) (r100 : x100 = 0 ∨ x100 = 1), (∀ (c103 : ¬ x100 = 0), W2_X40_read_2 ω d G l0 l1 l2 ((l4 + 1)) (g + G100) Θ100 Q) ∧ (∀ (c103 : x100 = 0), (g + G100 ≤ G) ∧ Q Θ100))) ∨ ((kd Θ l0 = 68) ∧ ∃ G100 : Nat, (g + G100 ≤ G) ∧ w2_X41_line ω (d - 1) G100 l0 l1 l3 s0 l5 l2 Θ (fun x100 Θ100 => ∀ (L100 : Le Θ Θ100) (r100 : x100 = 0 ∨ x100 = 1), (∀ (c103 : ¬ x100 = 0), W2_X40_read_2 ω d G l0 l1 l2 ((l4 + 1)) (g + G100) Θ100 Q) ∧ (∀ (c103 : x100 = 0), (g + G100 ≤ G) ∧ Q Θ100))))) : W2_X40_read_90 ω d G l0 l1 l2 l3 l4 l5 s0 g Θ Q := sorry
/-! 61.ca.lean.txt -/
/-! codings and charsets: what they answer -/
set_option maxRecDepth 100000
section ADX
variable {Θ Θ2 : Th} {a b r c e n x : Int} {cl cl' : Cl} {k : Nat} {m o : List Int} {g G : Nat}
theorem uq_self (h : xo Θ a = cl) : uq Θ a cl = Θ := sorry
/-- the room of a row of n to which one more was added k times -/
def rwN (c n : Int) : Nat → Int
  | 0 => c
  | k + 1 => rwC (rwN c n k) (n + k)
theorem rwN_2 (h : 2 ≤ c) : ∀ k, 2 ≤ rwN c n k ∧ c ≤ rwN c n k := sorry
theorem rwN_mono (h : 2 ≤ c) : ∀ k {j : Nat}, j ≤ k → rwN c n j ≤ rwN c n k := sorry
theorem rwN_le (h : 2 ≤ c) (hn : 0 ≤ n) : ∀ k : Nat, rwN c n k ≤ max c (2 * (n + k)) := sorry
theorem rwK_le (h : 2 ≤ c) : rwK c n ≤ rwC c n - c ∧ 0 ≤ rwK c n := sorry
/-- a row to which o has been added, one by one; nothing else is altered -/
def AD (Θ : Th) (r : Int) (k : Nat) (m : List Int) (c e : Int) (o : List Int) : Th := uq Θ r (k, m ++ o, rwN c (len m) o.length, e)
theorem AD_nil (h : xo Θ r = (k, m, c, e)) : AD Θ r k m c e [] = Θ := by unfold AD; rw [List.append_nil]; exact uq_self h
theorem AD_ne (h : b ≠ r) : xo (AD Θ r k m c e o) b = xo Θ b := xo_upN h
theorem AD_kd : kd (AD Θ r k m c e o) r = k := kd_of xo_upA
theorem AD_vl : vv (AD Θ r k m c e o) r = m ++ o := vl_of xo_upA
theorem AD_cp : cp (AD Θ r k m c e o) r = rwN c (len m) o.length := cp_of xo_upA
theorem AD_cx : cx (AD Θ r k m c e o) r = e := cx_of xo_upA
theorem rwN_s : rwN c (len m) (o ++ [x]).length = rwC (rwN c (len m) o.length) (len (m ++ o)) := by
  rw [List.length_append, len_app]; rfl
theorem AD_step (t : Θ2 = uq (AD Θ r k m c e o) r (k, vv (AD Θ r k m c e o) r ++ [x], rwC (cp (AD Θ r k m c e o) r) (len (vv (AD Θ r k m c e o) r)), cx (AD Θ r k m c e o) r)) : Θ2 = AD Θ r k m c e (o ++ [x]) := sorry
theorem AD_gas (x : Int) {T : Nat} (hc : 2 ≤ c) (hg : (g : Int) ≤ rwN c (len m) o.length - c) (hT : (o ++ [x]).length ≤ T) (hG : rwN c (len m) T - c ≤ (G : Int)) :
    g + (rwK (cp (AD Θ r k m c e o) r) (len (vv (AD Θ r k m c e o) r))).toNat ≤ G ∧ ((g + (rwK (cp (AD Θ r k m c e o) r) (len (vv (AD Θ r k m c e o) r))).toNat : Nat) : Int) ≤ rwN c (len m) (o ++ [x]).length - c := sorry
theorem AD_gle {T : Nat} (hc : 2 ≤ c) (hg : (g : Int) ≤ rwN c (len m) o.length - c) (hT : o.length ≤ T) (hG : rwN c (len m) T - c ≤ (G : Int)) : g ≤ G := sorry
theorem AD_cap (hc : 2 ≤ c ∧ c ≤ 60000000) (hm : len m + o.length < 30000000) : rwC (cp (AD Θ r k m c e o) r) (len (vv (AD Θ r k m c e o) r)) ≤ 60000000 := sorry
end ADX
theorem six_let {c : Int} (h : 0 ≤ c ∧ c < 256) : letF c = six c := sorry
/-- a row of bytes -/
def byt (l : List Int) : Prop := ∀ x, x ∈ l → 0 ≤ x ∧ x < 256
theorem byt.at {l : List Int} {k : Int} (h : byt l) (h0 : 0 ≤ k) (h1 : k < len l) : 0 ≤ gt l k ∧ gt l k < 256 := h _ (gt_mem h0 h1)
theorem u_X38_read {ω : AO} {d G : Nat} {l0 l1 l2 c e : Int} {m : List Int} {Θ : Th} {Q : Th → Prop} (hd : 9 ≤ d) (h1 : kd Θ l1 = 19) (hne : l1 ≠ l2) (h2 : xo Θ l2 = (19, m, c, e)) (hf : ¬ fz Θ l2) (hc : 2 ≤ c ∧ c ≤ 60000000)
    (hb : byt (vv Θ l1)) (hl : len (vv Θ l1) ≤ 10000000) (hm : len m ≤ 10000000) (hG : rwN c (len m) (unbase 0 0 (vv Θ l1)).length - c ≤ (G : Int)) (hQ : Q (AD Θ l2 19 m c e (unbase 0 0 (vv Θ l1)))) : w2_X38_read ω d G l0 l1 l2 Θ Q := sorry
theorem u_X35_read {ω : AO} {d G : Nat} {l0 l1 l2 c e t : Int} {m : List Int} {Θ : Th} {Q : Th → Prop} (hd : 4 ≤ d) (h0 : kd Θ l0 = 45) (ht : gt (vv Θ l0) 0 = t) (hk : kd Θ t = 104) (hn : len (vv Θ t) = 256) (h1 : kd Θ l1 = 19) (hne : l1 ≠ l2) (h2 : xo Θ l2 = (19, m, c, e)) (hf : ¬ fz Θ l2) (hc : 2 ≤ c ∧ c ≤ 60000000)
    (hb : byt (vv Θ l1)) (hl : len (vv Θ l1) ≤ 10000000) (hm : len m ≤ 10000000) (hG : rwN c (len m) (vv Θ l1).length - c ≤ (G : Int)) (hQ : Q (AD Θ l2 19 m c e ((vv Θ l1).map (gt (vv Θ t))))) : w2_X35_read ω d G l0 l1 l2 Θ Q := sorry
/-! units of sixteen bits -/
def pe (p : Int) : Int := if p = 0 then -1 else p
theorem rwN_add {c n : Int} {j : Nat} : ∀ k, rwN (rwN c n j) (n + j) k = rwN c n (j + k) := sorry
/-- o has been added to a row of numbers, what waits is y -/
def UA (Θ : Th) (u r : Int) (m : List Int) (c e : Int) (o : List Int) (y : Int) : Th := uq (AD Θ r 19 m c e o) u (46, [r, y], 0, 0)
section UAX
variable {Θ Θ2 : Th} {u r b c e x y y' : Int} {m o o' : List Int} {g G : Nat}
theorem uq_comm {a b : Int} {cl cl' : Cl} (h : a ≠ b) : uq (uq Θ a cl) b cl' = uq (uq Θ b cl') a cl := sorry
theorem UA_nil (h : xo Θ r = (19, m, c, e)) (h2 : xo Θ u = (46, [r, y], 0, 0)) : UA Θ u r m c e [] y = Θ := by unfold UA; rw [AD_nil h]; exact uq_self h2
theorem UA_ne (h : b ≠ r) (h2 : b ≠ u) : xo (UA Θ u r m c e o y) b = xo Θ b := (xo_upN h2).trans (AD_ne h)
theorem UA_u : xo (UA Θ u r m c e o y) u = (46, [r, y], 0, 0) := xo_upA
theorem UA_r (h : u ≠ r) : xo (UA Θ u r m c e o y) r = (19, m ++ o, rwN c (len m) o.length, e) := (xo_upN (fun z => h z.symm)).trans xo_upA
theorem UA_rv (h : u ≠ r) : vv (UA Θ u r m c e o y) r = m ++ o := vl_of (UA_r h)
theorem UA_rc (h : u ≠ r) : cp (UA Θ u r m c e o y) r = rwN c (len m) o.length := cp_of (UA_r h)
theorem UA_re (h : u ≠ r) : cx (UA Θ u r m c e o y) r = e := cx_of (UA_r h)
theorem UA_uv : vv (UA Θ u r m c e o y) u = [r, y] := vl_of UA_u
theorem UA_uk : kd (UA Θ u r m c e o y) u = 46 := kd_of UA_u
theorem UA_set : uq (UA Θ u r m c e o y) u (46, [r, y'], 0, 0) = UA Θ u r m c e o y' := by unfold UA; rw [uq_uq]
theorem UA_pf : pf (UA Θ u r m c e o y) u 1 y' = UA Θ u r m c e o y' := sorry
theorem UA_step (h : u ≠ r) (t : Θ2 = uq (UA Θ u r m c e o y) r (19, vv (UA Θ u r m c e o y) r ++ [x], rwC (cp (UA Θ u r m c e o y) r) (len (vv (UA Θ u r m c e o y) r)), cx (UA Θ u r m c e o y) r)) : Θ2 = UA Θ u r m c e (o ++ [x]) y := sorry
theorem UA_add (h : u ≠ r) : UA (UA Θ u r m c e o y) u r (m ++ o) (rwN c (len m) o.length) e o' y' = UA Θ u r m c e (o ++ o') y' := sorry
theorem UA_gas (h : u ≠ r) (x : Int) {T : Nat} (hc : 2 ≤ c) (hg : (g : Int) ≤ rwN c (len m) o.length - c) (hT : (o ++ [x]).length ≤ T) (hG : rwN c (len m) T - c ≤ (G : Int)) :
    g + (rwK (cp (UA Θ u r m c e o y) r) (len (vv (UA Θ u r m c e o y) r))).toNat ≤ G ∧ ((g + (rwK (cp (UA Θ u r m c e o y) r) (len (vv (UA Θ u r m c e o y) r))).toNat : Nat) : Int) ≤ rwN c (len m) (o ++ [x]).length - c := sorry
theorem UA_cap (h : u ≠ r) (hc : 2 ≤ c ∧ c ≤ 60000000) (hm : len m + o.length < 30000000) : rwC (cp (UA Θ u r m c e o y) r) (len (vv (UA Θ u r m c e o y) r)) ≤ 60000000 := sorry
theorem UA_gas2 (h : u ≠ r) (x : Int) {B : Int} {T : Nat} (hc : 2 ≤ c) (hg : (g : Int) ≤ rwN c (len m) o.length - B) (hT : (o ++ [x]).length ≤ T) (hG : rwN c (len m) T - B ≤ (G : Int)) :
    g + (rwK (cp (UA Θ u r m c e o y) r) (len (vv (UA Θ u r m c e o y) r))).toNat ≤ G := sorry
theorem ust_1 {p x : Int} (hp : 0 < p) (h : 56320 ≤ x ∧ x ≤ 57343) : ust p x = ([65536 + (p - 55296) * 1024 + x - 56320], 0) := by
  unfold ust
  exact if_pos ⟨hp, h.1, h.2⟩
theorem ust_2 {p x : Int} (h : 55296 ≤ x ∧ x ≤ 56319) : ust p x = (uend p, x) := sorry
theorem ust_3 {p x : Int} (h1 : ¬ (0 < p ∧ 56320 ≤ x ∧ x ≤ 57343)) (h2 : ¬ (55296 ≤ x ∧ x ≤ 56319)) : ust p x = (uend p ++ [if 56320 ≤ x ∧ x ≤ 57343 then 65533 else x], 0) := sorry
end UAX
theorem u_X36_end {ω : AO} {d G : Nat} {u r c e p : Int} {m o : List Int} {Θ : Th} {Q : Th → Prop} (hd : 4 ≤ d) (h : u ≠ r) (hfu : ¬ fz Θ u) (hfr : ¬ fz Θ r) (hc : 2 ≤ c ∧ c ≤ 60000000) (hm : len m + o.length < 30000000) (hp : 0 ≤ p)
    (hG : rwN c (len m) (o ++ uend p).length - rwN c (len m) o.length ≤ (G : Int)) (hQ : Q (UA Θ u r m c e (o ++ uend p) (-1))) : w2_X36_end ω d G u (UA Θ u r m c e o (pe p)) Q := sorry
theorem u_X36_add {ω : AO} {d G : Nat} {u r c e p x : Int} {m o : List Int} {Θ : Th} {Q : Th → Prop} (hd : 5 ≤ d) (h : u ≠ r) (hfu : ¬ fz Θ u) (hfr : ¬ fz Θ r) (hc : 2 ≤ c ∧ c ≤ 60000000) (hm : len m + o.length < 29999999) (hp : 0 ≤ p ∧ p < 65536) (hx : 0 ≤ x ∧ x < 65536)
    (hG : rwN c (len m) (o ++ (ust p x).1).length - rwN c (len m) o.length ≤ (G : Int)) (hQ : Q (UA Θ u r m c e (o ++ (ust p x).1) (pe (ust p x).2))) : w2_X36_add ω d G u x (UA Θ u r m c e o (pe p)) Q := sorry
/-! 61.cb.lean.txt -/
/-! the charsets of sixteen bits -/
set_option maxRecDepth 100000
theorem or16 {a b : Int} (ha : 0 ≤ a ∧ a < 256) (hb : 0 ≤ b ∧ b < 256) : 0 ≤ orI (a * 256) b ∧ orI (a * 256) b < 65536 := sorry
theorem wU_f {p a b : Int} {r : List Int} : units p (pairUp false (a :: b :: r)) ++ odd1 (a :: b :: r) = (ust p (orI (a * 256) b)).1 ++ (units (ust p (orI (a * 256) b)).2 (pairUp false r) ++ odd1 r) := sorry
theorem wU_t {p a b : Int} {r : List Int} : units p (pairUp true (a :: b :: r)) ++ odd1 (a :: b :: r) = (ust p (orI (b * 256) a)).1 ++ (units (ust p (orI (b * 256) a)).2 (pairUp true r) ++ odd1 r) := sorry
theorem uend_le (p : Int) : (uend p).length ≤ 1 := sorry
theorem ust_le (p u : Int) : (ust p u).1.length ≤ 2 := sorry
theorem wU_len (le : Bool) : ∀ (l : List Int) (p : Int), (units p (pairUp le l) ++ odd1 l).length ≤ l.length + 1 := sorry
theorem u_X33_loop {ω : AO} {d G : Nat} {l1 l2 l5 u c e k0 g0 : Int} {le : Bool} {m : List Int} {Θ : Th} {Q : Th → Prop} (hd : 6 ≤ d) (h1 : kd Θ l1 = 19) (hne : l1 ≠ l2) (h2 : xo Θ l2 = (19, m, c, e)) (hu : xo Θ u = (46, [l2, -1], 0, 0)) (hf : ¬ fz Θ l2) (hfu : ¬ fz Θ u) (hc : 2 ≤ c ∧ c ≤ 60000000)
    (hb : byt (vv Θ l1)) (hl : len (vv Θ l1) ≤ 10000000) (hm : len m ≤ 10000000) (h5 : l5 = if le then 1 else 0) (hk0 : 0 ≤ k0) (hk1 : k0 ≤ len (vv Θ l1) ∨ k0 ≤ 2) (g : Nat) (hg0 : (g : Int) ≤ g0)
    (hG : g0 + (rwN c (len m) (readU le ((vv Θ l1).drop k0.toNat)).length - c) ≤ (G : Int)) (hQ : Q (UA Θ u l2 m c e (readU le ((vv Θ l1).drop k0.toNat)) (-1))) : W2_X33_read_100 ω d G l1 l2 l5 u k0 g Θ Q := sorry
theorem u_X36_init {ω : AO} {d G : Nat} {u r : Int} {Θ : Th} {Q : Th → Prop} (hd : 1 ≤ d) (h0 : 0 ≤ u) (hr : -1 ≤ r) (hu : xo Θ u = (46, [-1, 0], 0, 0)) (hf : ¬ fz Θ u) (hQ : Q (uq Θ u (46, [r, -1], 0, 0))) : w2_X36_init ω d G u r Θ Q := sorry
/-- the first two bytes, where they are asked for -/
def mk16 (v : Int) (l : List Int) : Int := if v = 5 ∧ 2 ≤ len l then orI (gt l 0 * 256) (gt l 1) else 0
def le16 (v : Int) (l : List Int) : Bool := decide (v = 7) || decide (mk16 v l = 65534)
def at16 (v : Int) (l : List Int) : Int := if mk16 v l = 65279 ∨ mk16 v l = 65534 then 2 else 0
def rd16 (v : Int) (l : List Int) : List Int := readU (le16 v l) (l.drop (at16 v l).toNat)
theorem u_X33_read {ω : AO} {d G : Nat} {l0 l1 l2 c e : Int} {m : List Int} {Θ : Th} {Q : Th → Prop} (hd : 7 ≤ d) (h0 : kd Θ l0 = 44) (h1 : kd Θ l1 = 19) (hne : l1 ≠ l2) (hl2 : -1 ≤ l2) (h2 : xo Θ l2 = (19, m, c, e)) (hf : ¬ fz Θ l2) (hc : 2 ≤ c ∧ c ≤ 60000000)
    (hb : byt (vv Θ l1)) (hl : len (vv Θ l1) ≤ 10000000) (hm : len m ≤ 10000000) (hG : 1 + (rwN c (len m) (rd16 (gt (vv Θ l0) 0) (vv Θ l1)).length - c) ≤ (G : Int))
    (hQ : ∀ Θ', GrX (· = l2) Θ Θ' → xo Θ' l2 = (19, m ++ rd16 (gt (vv Θ l0) 0) (vv Θ l1), rwN c (len m) (rd16 (gt (vv Θ l0) 0) (vv Θ l1)).length, e) → ¬ fz Θ' l2 → Q Θ') : w2_X33_read ω d G l0 l1 l2 Θ Q := sorry
/-! 61.cc.lean.txt -/
/-! the charset of eight bits -/
set_option maxRecDepth 100000
/-- how many bytes follow, as the component counts them -/
def sO (c : Int) : Int := if c < 128 then 0 else if 194 ≤ c ∧ c ≤ 223 then 1 else if 224 ≤ c ∧ c ≤ 239 then 2 else if 240 ≤ c ∧ c ≤ 244 then 3 else -1
theorem sO_more {c : Int} (h : 128 ≤ c) : (sO c = -1 ∧ u8more c = 0) ∨ (1 ≤ sO c ∧ sO c ≤ 3 ∧ sO c = u8more c) := sorry
theorem u8v_s {c : Int} (h : 0 ≤ c ∧ c < 256) (h1 : 1 ≤ sO c) : andI c (shrI 63 (sO c)) = u8v c := sorry
theorem fit_lo {c n b : Int} (hn : 0 ≤ n) : u8fitB c n b = true ↔ loF c (n + 1) ≤ b ∧ b ≤ hiF c (n + 1) := sorry
theorem lo_pos {c k : Int} : 128 ≤ loF c k := sorry
theorem u_X32_read {ω : AO} {d G : Nat} {l0 l1 l2 c e : Int} {m : List Int} {Θ : Th} {Q : Th → Prop} (hd : 4 ≤ d) (h1 : kd Θ l1 = 19) (hne : l1 ≠ l2) (h2 : xo Θ l2 = (19, m, c, e)) (hf : ¬ fz Θ l2) (hc : 2 ≤ c ∧ c ≤ 60000000)
    (hb : byt (vv Θ l1)) (hl : len (vv Θ l1) ≤ 10000000) (hm : len m ≤ 10000000) (hG : rwN c (len m) (utf8 (vv Θ l1)).length - c ≤ (G : Int)) (hQ : Q (AD Θ l2 19 m c e (utf8 (vv Θ l1)))) : w2_X32_read ω d G l0 l1 l2 Θ Q := sorry
/-! 61.cd.lean.txt -/
/-! quoted-printable: a line -/
set_option maxRecDepth 100000
def qpB (l : List Int) (e k : Int) : Bool := decide (gt l k = 61 ∧ k + 2 < e ∧ 0 ≤ hbF l (k + 1))
/-- what stands in a line, its codes told -/
def qpG (l : List Int) (e k : Int) : List Int :=
  if k < e then (if qpB l e k = true then hbF l (k + 1) :: qpG l e (k + 3) else gt l k :: qpG l e (k + 1)) else []
termination_by (e - k).toNat
decreasing_by all_goals omega
theorem qpG_end {l : List Int} {e k : Int} (h : e ≤ k) : qpG l e k = [] := sorry
theorem qpG_code {l : List Int} {e k : Int} (h : k < e) (hq : qpB l e k = true) : qpG l e k = hbF l (k + 1) :: qpG l e (k + 3) := by rw [qpG, if_pos h, if_pos hq]
theorem qpG_raw {l : List Int} {e k : Int} (h : k < e) (hq : ¬ qpB l e k = true) : qpG l e k = gt l k :: qpG l e (k + 1) := by rw [qpG, if_pos h, if_neg hq]
theorem qpG_len {l : List Int} {e : Int} : ∀ (N : Nat) (k : Int), (e - k).toNat = N → (qpG l e k).length ≤ N := sorry
/-- the line's end without the blanks behind it -/
def qpE (l : List Int) (a e : Int) : Int := bscn blB l a e
/-- whether it ends with = -/
def qpS (l : List Int) (a e : Int) : Bool := decide (a < qpE l a e ∧ gt l (qpE l a e - 1) = 61)
def qpL (l : List Int) (a e y : Int) : List Int := qpG l (if qpS l a e then qpE l a e - 1 else qpE l a e) a ++ (if ¬ y = 0 ∧ qpS l a e = false then [13, 10] else [])
theorem hbF_in (l : List Int) (k : Int) : -1 ≤ hbF l k ∧ hbF l k < 256 := sorry
theorem qpL_len {l : List Int} {a e y : Int} (h : 0 ≤ a ∧ a ≤ e ∧ e ≤ len l) : ((qpL l a e y).length : Int) ≤ len l + 2 := sorry
theorem u_X41_line {ω : AO} {d G : Nat} {l0 l1 l2 l3 l4 l5 c e : Int} {m : List Int} {Θ : Th} {Q : Int → Th → Prop} (hd : 4 ≤ d) (h1 : kd Θ l1 = 19) (hne : l1 ≠ l5) (h2 : xo Θ l5 = (19, m, c, e)) (hf : ¬ fz Θ l5) (hc : 2 ≤ c ∧ c ≤ 60000000)
    (hb : byt (vv Θ l1)) (hl : len (vv Θ l1) ≤ 10000000) (hm : len m ≤ 10000000) (hae : 0 ≤ l2 ∧ l2 ≤ l3 ∧ l3 ≤ len (vv Θ l1)) (h4 : l4 = 0 ∨ l4 = 1)
    (hG : rwN c (len m) (qpL (vv Θ l1) l2 l3 l4).length - c ≤ (G : Int)) (hQ : Q 1 (AD Θ l5 19 m c e (qpL (vv Θ l1) l2 l3 l4))) : w2_X41_line ω d G l0 l1 l2 l3 l4 l5 Θ Q := sorry
/-! 61.ce.lean.txt -/
/-! uuencoded lines -/
set_option maxRecDepth 100000
/-- whether a row of bytes has a text at a place, ahead of an end -/
def isU (l : List Int) (a e : Int) (s : List Int) : Bool := decide (len s ≤ e - a) && pAtB l s a
theorem u_X42_is {ω : AO} {d G : Nat} {l0 l1 l2 l3 : Int} {s : List Int} {Θ : Th} {Q : Int → Th → Prop} (hd : 6 ≤ d) (h0 : kd Θ l0 = 19) (hs : Str Θ l3 s) (hae : 0 ≤ l1 ∧ l1 ≤ l2 ∧ l2 ≤ len (vv Θ l0)) (hl : len (vv Θ l0) ≤ 10000000)
    (hQ : ∀ x, x = (if isU (vv Θ l0) l1 l2 s then 1 else 0) → Q x Θ) : w2_X42_is ω d G l0 l1 l2 l3 Θ Q := sorry
/-! 61.cf.lean.txt -/
/-! uuencoded lines: what a line tells -/
set_option maxRecDepth 100000
def uuB (l : List Int) (t p : Int) : Int := if t ≤ p then 0 else (gt l p - 32) % 64
def uuW (l : List Int) (t p : Int) : Int := orI (orI (orI (orI (0 * 64) (uuB l t (p + 0)) * 64) (uuB l t (p + 1)) * 64) (uuB l t (p + 2)) * 64) (uuB l t (p + 3))
/-- groups of four from a place on, n bytes in all -/
def uuG (l : List Int) (t n p : Int) : List Int :=
  if p < t ∧ 0 < n then [shrI (uuW l t p) 16 % 256, shrI (uuW l t p) 8 % 256, shrI (uuW l t p) 0 % 256].take n.toNat ++ uuG l t (n - 3) (p + 4) else []
termination_by (t - p).toNat
decreasing_by omega
theorem uuG_end {l : List Int} {t n p : Int} (h : t ≤ p ∨ n ≤ 0) : uuG l t n p = [] := sorry
theorem uuG_len {l : List Int} {t : Int} : ∀ (N : Nat) (n p : Int), (t - p).toNat = N → (uuG l t n p).length ≤ N + 3 := sorry
theorem u_X42_groups {ω : AO} {d G : Nat} {l1 l3 l5 c e n0 p0 : Int} {m : List Int} {Θ : Th} {Q : Int → Th → Prop} (hd : 4 ≤ d) (h1 : kd Θ l1 = 19) (hne : l1 ≠ l5) (h2 : xo Θ l5 = (19, m, c, e)) (hf : ¬ fz Θ l5) (hc : 2 ≤ c ∧ c ≤ 60000000)
    (hl : len (vv Θ l1) ≤ 10000000) (hm : len m ≤ 10000000) (hp : 0 ≤ p0 ∧ p0 ≤ l3 + 4) (ht : 0 ≤ l3 ∧ l3 ≤ len (vv Θ l1)) (hn0 : 0 ≤ n0 ∧ n0 < 64)
    (hG : rwN c (len m) (uuG (vv Θ l1) l3 n0 p0).length - c ≤ (G : Int)) (hQ : Q 1 (AD Θ l5 19 m c e (uuG (vv Θ l1) l3 n0 p0))) : W2_X42_line_90 ω d G l1 l3 l5 n0 p0 0 Θ Q := sorry
/-! 61.cg.lean.txt -/
/-! uuencoded lines: whole -/
set_option maxRecDepth 100000
def BEG : List Int := [98, 101, 103, 105, 110, 32]
def ENDL : List Int := [101, 110, 100]
/-- how many bytes a line tells -/
def uuN (l : List Int) (a e : Int) : Int := if e ≤ a then 0 else (gt l a - 32) % 64
theorem u_X42_line {ω : AO} {d G : Nat} {l0 l1 l2 l3 l4 l5 c e b : Int} {m : List Int} {Θ : Th} {Q : Int → Th → Prop} (hd : 8 ≤ d) (h0 : xo Θ l0 = (48, [b], 0, 0)) (hf0 : ¬ fz Θ l0) (h1 : kd Θ l1 = 19) (hne : l1 ≠ l5) (h2 : xo Θ l5 = (19, m, c, e)) (hf : ¬ fz Θ l5) (hc : 2 ≤ c ∧ c ≤ 60000000)
    (hl : len (vv Θ l1) ≤ 10000000) (hm : len m ≤ 10000000) (hae : 0 ≤ l2 ∧ l2 ≤ l3 ∧ l3 ≤ len (vv Θ l1))
    (hQ0 : b = 0 → Q 1 (uq Θ l0 (48, [if isU (vv Θ l1) l2 l3 BEG && decide (6 < l3 - l2) then 1 else 0], 0, 0)))
    (hQ1 : ¬ b = 0 → (uuN (vv Θ l1) l2 l3 = 0 ∨ l3 - l2 = 3 ∧ isU (vv Θ l1) l2 l3 ENDL = true) → Q 0 Θ)
    (hQ2 : ¬ b = 0 → ¬ (uuN (vv Θ l1) l2 l3 = 0 ∨ l3 - l2 = 3 ∧ isU (vv Θ l1) l2 l3 ENDL = true) → rwN c (len m) (uuG (vv Θ l1) l3 (uuN (vv Θ l1) l2 l3) (l2 + 1)).length - c ≤ (G : Int) ∧ Q 1 (AD Θ l5 19 m c e (uuG (vv Θ l1) l3 (uuN (vv Θ l1) l2 l3) (l2 + 1)))) : w2_X42_line ω d G l0 l1 l2 l3 l4 l5 Θ Q := sorry
/-! 61.ch.lean.txt -/
/-! a body's lines: where they end -/
set_option maxRecDepth 100000
def nLF (c : Int) : Bool := decide (c ≠ 10)
def lnE (l : List Int) (k : Int) : Int := scn nLF l k
def lnF (l : List Int) (k : Int) : Int := if lnE l k < len l then 1 else 0
def lnC (l : List Int) (k : Int) : Int := if lnE l k < len l ∧ k < lnE l k ∧ gt l (lnE l k - 1) = 13 then lnE l k - 1 else lnE l k
theorem lnE_in {l : List Int} {k : Int} (h : 0 ≤ k ∧ k ≤ len l) : k ≤ lnE l k ∧ lnE l k ≤ len l := ⟨scn_ge, scn_le k h.1 h.2⟩
theorem lnC_in {l : List Int} {k : Int} (h : 0 ≤ k ∧ k ≤ len l) : k ≤ lnC l k ∧ lnC l k ≤ len l := sorry
theorem u_X40_ends {ω : AO} {d G g : Nat} {l0 l1 l2 k : Int} {Θ : Th} {Q : Th → Prop} (h1 : kd Θ l1 = 19) (hk : 0 ≤ k ∧ k < len (vv Θ l1)) (hl : len (vv Θ l1) ≤ 10000000) (hgG : g ≤ G)
    (h : W2_X40_read_90 ω d G l0 l1 l2 k (lnE (vv Θ l1) k) (lnF (vv Θ l1) k) (lnC (vv Θ l1) k) g Θ Q) : W2_X40_read_2 ω d G l0 l1 l2 k g Θ Q := sorry
/-! 61.ci.lean.txt -/
/-! a body in quoted-printable -/
set_option maxRecDepth 100000
theorem AD_add {Θ : Th} {r c e : Int} {k : Nat} {m o o' : List Int} : AD (AD Θ r k m c e o) r k (m ++ o) (rwN c (len m) o.length) e o' = AD Θ r k m c e (o ++ o') := sorry
def qpA (l : List Int) (k : Int) : List Int :=
  if h : 0 ≤ k ∧ k < len l then qpL l k (lnC l k) (lnF l k) ++ qpA l (lnE l k + 1) else []
termination_by (len l - k).toNat
decreasing_by
  have := lnE_in (l := l) (k := k) ⟨h.1, by omega⟩
  omega
theorem qpL_len2 {l : List Int} {a e y : Int} (h : 0 ≤ a ∧ a ≤ e ∧ e ≤ len l) : ((qpL l a e y).length : Int) ≤ e - a + 2 := sorry
theorem lnC_le {l : List Int} {k : Int} : lnC l k ≤ lnE l k := sorry
theorem qpA_len {l : List Int} : ∀ (N : Nat) (k : Int), (len l + 1 - k).toNat = N → 0 ≤ k → ((qpA l k).length : Int) ≤ 2 * N := sorry
theorem u_X40_readQ {ω : AO} {d G : Nat} {l0 l1 l2 c e : Int} {m : List Int} {Θ : Th} {Q : Th → Prop} (hd : 5 ≤ d) (h0 : kd Θ l0 = 68) (h1 : kd Θ l1 = 19) (hne : l1 ≠ l2) (h2 : xo Θ l2 = (19, m, c, e)) (hf : ¬ fz Θ l2) (hc : 2 ≤ c ∧ c ≤ 20000000)
    (hb : byt (vv Θ l1)) (hl : len (vv Θ l1) ≤ 4000000) (hm : len m ≤ 1000000) (hG : rwN c (len m) (qpA (vv Θ l1) 0).length - c ≤ (G : Int)) (hQ : Q (AD Θ l2 19 m c e (qpA (vv Θ l1) 0))) : w2_X40_read ω d G l0 l1 l2 Θ Q := sorry
/-! 61.cj.lean.txt -/
/-! a uuencoded body -/
set_option maxRecDepth 100000
def uuStop (l : List Int) (k t : Int) : Bool := decide (uuN l k t = 0 ∨ t - k = 3 ∧ isU l k t ENDL = true)
def uuBeg (l : List Int) (k t : Int) : Int := if isU l k t BEG && decide (6 < t - k) then 1 else 0
def uuA (l : List Int) (b k : Int) : List Int :=
  if h : 0 ≤ k ∧ k < len l then
    if b = 0 then uuA l (uuBeg l k (lnC l k)) (lnE l k + 1)
    else if uuStop l k (lnC l k) = true then []
    else uuG l (lnC l k) (uuN l k (lnC l k)) (k + 1) ++ uuA l b (lnE l k + 1)
  else []
termination_by (len l - k).toNat
decreasing_by
  all_goals
    have := lnE_in (l := l) (k := k) ⟨h.1, by omega⟩
    omega
theorem uuA_len {l : List Int} : ∀ (N : Nat) (b k : Int), (len l + 1 - k).toNat = N → 0 ≤ k → ((uuA l b k).length : Int) ≤ 3 * N := sorry
theorem u_X40_readU {ω : AO} {d G : Nat} {l0 l1 l2 c e b0 : Int} {m : List Int} {Θ : Th} {Q : Th → Prop} (hd : 9 ≤ d) (h0 : xo Θ l0 = (48, [b0], 0, 0)) (hf0 : ¬ fz Θ l0) (h1 : kd Θ l1 = 19) (hne : l1 ≠ l2) (h2 : xo Θ l2 = (19, m, c, e)) (hf : ¬ fz Θ l2) (hc : 2 ≤ c ∧ c ≤ 20000000)
    (hl : len (vv Θ l1) ≤ 2900000) (hm : len m ≤ 1000000) (hG : rwN c (len m) (uuA (vv Θ l1) b0 0).length - c ≤ (G : Int)) (hQ : ∀ b, Q (uq (AD Θ l2 19 m c e (uuA (vv Θ l1) b0 0)) l0 (48, [b], 0, 0))) : w2_X40_read ω d G l0 l1 l2 Θ Q := sorry
/-! 62.aa.lean.txt -/
/-! segments -/
set_option maxRecDepth 100000
def w2_X28_init (ω : AO) (d G : Nat) (l0 l1 l2 : Int) (Θ : Th) (Q : Th → Prop) : Prop := Hid (∀ S, bel S → R2 ω S Θ → Ctr ω yX28_init cX28_init 3 none d G [(2, l0), (2, l1), (2, l2)] S (eU S (q2U ω Θ Q)))
def w2_X28_is (ω : AO) (d G : Nat) (l0 l1 : Int) (Θ : Th) (Q : Int → Th → Prop) : Prop := Hid (∀ S, bel S → R2 ω S Θ → Ctr ω yX28_is cX28_is 2 (some .boolean) d G [(2, l0), (0, l1)] S (eZ S (q2 ω Θ Q)))
def w2_X28_isPlain (ω : AO) (d G : Nat) (l0 : Int) (Θ : Th) (Q : Int → Th → Prop) : Prop := Hid (∀ S, bel S → R2 ω S Θ → Ctr ω yX28_isPlain cX28_isPlain 1 (some .boolean) d G [(2, l0)] S (eZ S (q2 ω Θ Q)))
def w2_X28_isAtom (ω : AO) (d G : Nat) (l0 : Int) (Θ : Th) (Q : Int → Th → Prop) : Prop := Hid (∀ S, bel S → R2 ω S Θ → Ctr ω yX28_isAtom cX28_isAtom 1 (some .boolean) d G [(2, l0)] S (eZ S (q2 ω Θ Q)))
def w2_X27_init (ω : AO) (d G : Nat) (l0 l1 : Int) (Θ : Th) (Q : Th → Prop) : Prop := Hid (∀ S, bel S → R2 ω S Θ → Ctr ω yX27_init cX27_init 2 none d G [(2, l0), (2, l1)] S (eU S (q2U ω Θ Q)))
def w2_X27_isPart (ω : AO) (d G : Nat) (l0 l1 : Int) (Θ : Th) (Q : Int → Th → Prop) : Prop := Hid (∀ S, bel S → R2 ω S Θ → Ctr ω yX27_isPart cX27_isPart 2 (some .boolean) d G [(2, l0), (0, l1)] S (eZ S (q2 ω Θ Q)))
def w2_X27_upTo (ω : AO) (d G : Nat) (l0 l1 : Int) (Θ : Th) (Q : Int → Th → Prop) : Prop := Hid (∀ S, bel S → R2 ω S Θ → Ctr ω yX27_upTo cX27_upTo 3 (some (.object "java/lang/String")) d G [(2, l0), (0, l1)] S (eA S (q2 ω Θ Q)))
def w2_X27_comment (ω : AO) (d G : Nat) (l0 : Int) (Θ : Th) (Q : Th → Prop) : Prop := Hid (∀ S, bel S → R2 ω S Θ → Ctr ω yX27_comment cX27_comment 4 none d G [(2, l0)] S (eU S (q2U ω Θ Q)))
def w2_X27_all (ω : AO) (d G : Nat) (l0 : Int) (Θ : Th) (Q : Int → Th → Prop) : Prop := Hid (∀ S, bel S → R2 ω S Θ → Ctr ω yX27_all cX27_all 3 (some (.object "java/util/ArrayList")) d G [(2, l0)] S (eA S (q2 ω Θ Q)))
theorem lf_X28_7_41 : FLk RX28 7 41 0 (.object "MailWorks$Kind") true := sorry
theorem lf_X28_13_41 : FLk RX28 13 41 1 (.object "java/lang/String") true := sorry
theorem lr_X28_7_41 : FLkR RX28 7 41 0 (.object "MailWorks$Kind") := sorry
theorem lr_X28_13_41 : FLkR RX28 13 41 1 (.object "java/lang/String") := sorry
theorem lm_X28_22 : VLk RX28 22 2 yJ2_charAt cJ2_charAt 2 (some .char) 1 := sorry
theorem lm_X27_9 : ILk RX27 9 yJ7_init cJ7_init 1 0 := sorry
theorem lf_X27_10_40 : FLk RX27 10 40 1 (.object "java/util/ArrayList") true := sorry
theorem lf_X27_16_40 : FLk RX27 16 40 0 (.object "java/lang/String") true := sorry
theorem lm_X27_28 : SLk RX27 28 yX27_isNothing cX27_isNothing 1 (some .boolean) 1 := sorry
theorem lm_X27_32 : SLk RX27 32 yX27_isSign cX27_isSign 1 (some .boolean) 1 := sorry
theorem lm_X27_87 : ILk RX27 87 yJ1_init cJ1_init 1 0 := sorry
theorem lr_X27_35_40 : FLkR RX27 35 40 2 .int := sorry
theorem lf_X27_35_40 : FLk RX27 35 40 2 .int false := sorry
theorem lr_X27_16_40 : FLkR RX27 16 40 0 (.object "java/lang/String") := sorry
theorem lm_X27_39 : VLk RX27 39 2 yJ2_length cJ2_length 1 (some .int) 0 := sorry
theorem lm_X27_43 : VLk RX27 43 2 yJ2_charAt cJ2_charAt 2 (some .char) 1 := sorry
theorem lm_X27_92 : VLk RX27 92 1 yJ1_toString cJ1_toString 1 (some (.object "java/lang/String")) 0 := sorry
theorem lm_X27_88 : VLk RX27 88 1 yJ1_append cJ1_append 2 (some (.object "java/lang/StringBuilde\x72")) 1 := sorry
theorem lr_X27_10_40 : FLkR RX27 10 40 1 (.object "java/util/ArrayList") := sorry
theorem lm_X27_62 : ILk RX27 62 yX28_init cX28_init 3 2 := sorry
theorem lm_X27_65 : VLk RX27 65 3 yJ7_add cJ7_add 2 (some .boolean) 1 := sorry
theorem lm_X27_75 : VLk RX27 75 2 yJ2_substring cJ2_substring 5 (some (.object "java/lang/String")) 2 := sorry
theorem lm_X27_58 : VLk RX27 58 40 yX27_upTo cX27_upTo 3 (some (.object "java/lang/String")) 1 := sorry
theorem lm_X27_47 : VLk RX27 47 40 yX27_comment cX27_comment 4 none 0 := sorry
theorem lm_X27_79 : VLk RX27 79 40 yX27_isPart cX27_isPart 2 (some .boolean) 1 := sorry
set_option maxHeartbeats 4000000 in
theorem s2_X28_init {ω : AO} {d G : Nat} {l0 l1 l2 : Int} {Θ : Th} {Q : Th → Prop} (hB : (1 ≤ d) ∧ (0 ≤ l0) ∧ (kd Θ l0 = 41) ∧ (¬ fz Θ l0) ∧ (-1 ≤ l1) ∧ ∀ (Θ6 : Th) (t6 : Θ6 = pf Θ l0 0 l1), (¬ fz Θ6 l0) ∧ (-1 ≤ l2) ∧ ∀ (Θ11 : Th) (t11 : Θ11 = pf Θ6 l0 1 l2), Q Θ11) : w2_X28_init ω d G l0 l1 l2 Θ Q := sorry
set_option maxHeartbeats 4000000 in
theorem s2_X28_is {ω : AO} {d G : Nat} {l0 l1 : Int} {Θ : Th} {Q : Int → Th → Prop} (hB : (kd Θ l0 = 41) ∧ ∀ (v1 : Int) (e1 : v1 = gt (vv Θ l0) 0) (r1 : -1 ≤ v1), (-1 ≤ ((ω.2.2.1 "#V" 12 : Int) - 1)) ∧ (∀ (c7 : ¬ v1 = ((ω.2.2.1 "#V" 12 : Int) - 1)), Q 0 Θ) ∧ (∀ (c7 : v1 = ((ω.2.2.1 "#V" 12 : Int) - 1)), ∀ (v11 : Int) (e11 : v11 = gt (vv Θ l0) 1) (r11 : -1 ≤ v11), (1 ≤ d) ∧ (kd Θ v11 = 2) ∧ (0 ≤ (0 : Int) ∧ (0 : Int) < len (vv Θ v11)) ∧ (5 ≤ d) ∧ ∀ (x15 : Int) (e15 : x15 = gt (vv Θ v11) (0 : Int)) (r15 : 0 ≤ x15 ∧ x15 < 65536), (-2147483648 ≤ l1 ∧ l1 < 2147483648) ∧ (∀ (c19 : ¬ x15 = l1), Q 0 Θ) ∧ (∀ (c19 : x15 = l1), Q 1 Θ))) : w2_X28_is ω d G l0 l1 Θ Q := sorry
set_option maxHeartbeats 4000000 in
theorem s2_X28_isPlain {ω : AO} {d G : Nat} {l0 : Int} {Θ : Th} {Q : Int → Th → Prop} (hB : (kd Θ l0 = 41) ∧ ∀ (v1 : Int) (e1 : v1 = gt (vv Θ l0) 0) (r1 : -1 ≤ v1), (-1 ≤ ((ω.2.2.1 "#V" 9 : Int) - 1)) ∧ (∀ (c7 : v1 = ((ω.2.2.1 "#V" 9 : Int) - 1)), Q 1 Θ) ∧ (∀ (c7 : ¬ v1 = ((ω.2.2.1 "#V" 9 : Int) - 1)), ∀ (v11 : Int) (e11 : v11 = gt (vv Θ l0) 0) (r11 : -1 ≤ v11), (-1 ≤ ((ω.2.2.1 "#V" 10 : Int) - 1)) ∧ (∀ (c17 : ¬ v11 = ((ω.2.2.1 "#V" 10 : Int) - 1)), Q 0 Θ) ∧ (∀ (c17 : v11 = ((ω.2.2.1 "#V" 10 : Int) - 1)), Q 1 Θ))) : w2_X28_isPlain ω d G l0 Θ Q := sorry
set_option maxHeartbeats 4000000 in
theorem s2_X28_isAtom {ω : AO} {d G : Nat} {l0 : Int} {Θ : Th} {Q : Int → Th → Prop} (hB : (kd Θ l0 = 41) ∧ ∀ (v1 : Int) (e1 : v1 = gt (vv Θ l0) 0) (r1 : -1 ≤ v1), (-1 ≤ ((ω.2.2.1 "#V" 9 : Int) - 1)) ∧ (∀ (c7 : ¬ v1 = ((ω.2.2.1 "#V" 9 : Int) - 1)), Q 0 Θ) ∧ (∀ (c7 : v1 = ((ω.2.2.1 "#V" 9 : Int) - 1)), Q 1 Θ)) : w2_X28_isAtom ω d G l0 Θ Q := sorry
set_option maxHeartbeats 4000000 in
theorem s2_X27_init {ω : AO} {d G : Nat} {l0 l1 : Int} {Θ : Th} {Q : Th → Prop} (hB : (1 ≤ d) ∧ (0 ≤ l0) ∧ (0 + 1 ≤ G) ∧ ∀ (v5 : Int) (Θ5 : Th) (u5 : nt Θ ≤ v5 ∧ 0 ≤ v5) (b5 : Bl Θ) (t5 : Θ5 = nu Θ v5 (203, [], 0, 0)), (4 ≤ d) ∧ ∀ (k9 : Int) (Θ9 : Th) (t9 : Θ9 = uq Θ5 v5 (3, [], 0, k9)), (kd Θ9 l0 = 40) ∧ (¬ fz Θ9 l0) ∧ ∀ (Θ12 : Th) (t12 : Θ12 = pf Θ9 l0 1 v5), (¬ fz Θ12 l0) ∧ (-1 ≤ l1) ∧ ∀ (Θ17 : Th) (t17 : Θ17 = pf Θ12 l0 0 l1), Q Θ17) : w2_X27_init ω d G l0 l1 Θ Q := sorry
set_option maxHeartbeats 4000000 in
theorem s2_X27_isPart {ω : AO} {d G : Nat} {l0 l1 : Int} {Θ : Th} {Q : Int → Th → Prop} (hB : (1 ≤ d) ∧ (-2147483648 ≤ l1 ∧ l1 < 2147483648) ∧ ∀ (x1 : Int) (e1 : x1 = if chNo l1 then 1 else 0) (r1 : x1 = 0 ∨ x1 = 1), (∀ (c4 : ¬ x1 = 0), Q 0 Θ) ∧ (∀ (c4 : x1 = 0), (0 ≤ l1 ∧ l1 < 65536) ∧ (8 ≤ d) ∧ ∀ (x8 : Int) (e8 : x8 = if 0 ≤ idx chSg l1 0 then 1 else 0) (r8 : x8 = 0 ∨ x8 = 1), (∀ (c11 : ¬ x8 = 0), Q 0 Θ) ∧ (∀ (c11 : x8 = 0), (∀ (c17 : l1 = 40), Q 0 Θ) ∧ (∀ (c17 : ¬ l1 = 40), (∀ (c23 : l1 = 34), Q 0 Θ) ∧ (∀ (c23 : ¬ l1 = 34), (∀ (c29 : l1 = 91), Q 0 Θ) ∧ (∀ (c29 : ¬ l1 = 91), Q 1 Θ)))))) : w2_X27_isPart ω d G l0 l1 Θ Q := sorry
def W2_X27_upTo_18 (ω : AO) (d G : Nat) (l0 l1 l2 : Int) (g : Nat) (Θ : Th) (Q : Int → Th → Prop) : Prop := Hid (SJ2 ω yX27_upTo cX27_upTo 3 (some (.object "java/lang/String")) d G (fun Sz Θz => (eA Sz (q2 ω Θz Q))) 18 [(2, l0), (0, l1), (2, l2)] [] g Θ)
def W2_X27_upTo_116 (ω : AO) (d G : Nat) (l0 l2 : Int) (g : Nat) (Θ : Th) (Q : Int → Th → Prop) : Prop := Hid (SJ2 ω yX27_upTo cX27_upTo 3 (some (.object "java/lang/String")) d G (fun Sz Θz => (eA Sz (q2 ω Θz Q))) 116 [(2, l0), vN, (2, l2)] [] g Θ)
def W2_X27_upTo_73 (ω : AO) (d G : Nat) (l0 l1 l2 : Int) (g : Nat) (Θ : Th) (Q : Int → Th → Prop) : Prop := Hid (SJ2 ω yX27_upTo cX27_upTo 3 (some (.object "java/lang/String")) d G (fun Sz Θz => (eA Sz (q2 ω Θz Q))) 73 [(2, l0), (0, l1), (2, l2)] [] g Θ)
def W2_X27_upTo_103 (ω : AO) (d G : Nat) (l0 l1 l2 : Int) (g : Nat) (Θ : Th) (Q : Int → Th → Prop) : Prop := Hid (SJ2 ω yX27_upTo cX27_upTo 3 (some (.object "java/lang/String")) d G (fun Sz Θz => (eA Sz (q2 ω Θz Q))) 103 [(2, l0), (0, l1), (2, l2)] [] g Θ)
set_option maxHeartbeats 4000000 in
theorem s2_X27_upTo {ω : AO} {d G : Nat} {l0 l1 : Int} {Θ : Th} {Q : Int → Th → Prop} (hB : (0 + 1 ≤ G) ∧ ∀ (v0 : Int) (Θ0 : Th) (u0 : nt Θ ≤ v0 ∧ 0 ≤ v0) (b0 : Bl Θ) (t0 : Θ0 = nu Θ v0 (201, [], 0, 0)), (1 ≤ d) ∧ (3 ≤ d) ∧ (0 + 1 + 5 ≤ G) ∧ ∀ (Θ4 : Th) (t4 : Θ4 = uq Θ0 v0 (1, [], 16, 0)), (kd Θ4 l0 = 40) ∧ ∀ (v10 : Int) (e10 : v10 = gt (vv Θ4 l0) 2) (r10 : -2147483648 ≤ v10 ∧ v10 < 2147483648), (¬ fz Θ4 l0) ∧ (-2147483648 ≤ (v10 + 1) ∧ (v10 + 1) < 2147483648) ∧ ∀ (Θ15 : Th) (t15 : Θ15 = pf Θ4 l0 2 (v10 + 1)), W2_X27_upTo_18 ω d G l0 l1 v0 (0 + 1 + 5) Θ15 Q) : w2_X27_upTo ω d G l0 l1 Θ Q := sorry
set_option maxHeartbeats 4000000 in
theorem s2_X27_upTo_18 {ω : AO} {d G : Nat} {l0 l1 l2 : Int} {g : Nat} {Θ : Th} {Q : Int → Th → Prop} (hB : (kd Θ l0 = 40) ∧ ∀ (v19 : Int) (e19 : v19 = gt (vv Θ l0) 2) (r19 : -2147483648 ≤ v19 ∧ v19 < 2147483648), ∀ (v23 : Int) (e23 : v23 = gt (vv Θ l0) 0) (r23 : -1 ≤ v23), (1 ≤ d) ∧ (kd Θ v23 = 2) ∧ (2 ≤ d) ∧ (g ≤ G) ∧ ∀ (x26 : Int) (e26 : x26 = len (vv Θ v23)) (r26 : -2147483648 ≤ x26 ∧ x26 < 2147483648), (∀ (c29 : x26 ≤ v19), W2_X27_upTo_116 ω d G l0 l2 (g) Θ Q) ∧ (∀ (c29 : v19 < x26), ∀ (v33 : Int) (e33 : v33 = gt (vv Θ l0) 0) (r33 : -1 ≤ v33), ∀ (v37 : Int) (e37 : v37 = gt (vv Θ l0) 2) (r37 : -2147483648 ≤ v37 ∧ v37 < 2147483648), (kd Θ v33 = 2) ∧ (0 ≤ v37 ∧ v37 < len (vv Θ v33)) ∧ (5 ≤ d) ∧ ∀ (x40 : Int) (e40 : x40 = gt (vv Θ v33) v37) (r40 : 0 ≤ x40 ∧ x40 < 65536), (-2147483648 ≤ l1 ∧ l1 < 2147483648) ∧ (∀ (c44 : x40 = l1), W2_X27_upTo_116 ω d G l0 l2 (g) Θ Q) ∧ (∀ (c44 : ¬ x40 = l1), ∀ (v48 : Int) (e48 : v48 = gt (vv Θ l0) 0) (r48 : -1 ≤ v48), ∀ (v52 : Int) (e52 : v52 = gt (vv Θ l0) 2) (r52 : -2147483648 ≤ v52 ∧ v52 < 2147483648), (kd Θ v48 = 2) ∧ (0 ≤ v52 ∧ v52 < len (vv Θ v48)) ∧ ∀ (x55 : Int) (e55 : x55 = gt (vv Θ v48) v52) (r55 : 0 ≤ x55 ∧ x55 < 65536), (∀ (c60 : ¬ x55 = 92), W2_X27_upTo_73 ω d G l0 l1 l2 (g) Θ Q) ∧ (∀ (c60 : x55 = 92), ∀ (v65 : Int) (e65 : v65 = gt (vv Θ l0) 2) (r65 : -2147483648 ≤ v65 ∧ v65 < 2147483648), (¬ fz Θ l0) ∧ (-2147483648 ≤ (v65 + 1) ∧ (v65 + 1) < 2147483648) ∧ ∀ (Θ70 : Th) (t70 : Θ70 = pf Θ l0 2 (v65 + 1)), W2_X27_upTo_73 ω d G l0 l1 l2 (g) Θ70 Q)))) : W2_X27_upTo_18 ω d G l0 l1 l2 g Θ Q := sorry
set_option maxHeartbeats 4000000 in
theorem s2_X27_upTo_116 {ω : AO} {d G : Nat} {l0 l2 : Int} {g : Nat} {Θ : Th} {Q : Int → Th → Prop} (hB : (kd Θ l0 = 40) ∧ ∀ (v118 : Int) (e118 : v118 = gt (vv Θ l0) 2) (r118 : -2147483648 ≤ v118 ∧ v118 < 2147483648), (¬ fz Θ l0) ∧ (-2147483648 ≤ (v118 + 1) ∧ (v118 + 1) < 2147483648) ∧ ∀ (Θ123 : Th) (t123 : Θ123 = pf Θ l0 2 (v118 + 1)), (1 ≤ d) ∧ (kd Θ123 l2 = 1) ∧ (len (vv Θ123 l2) ≤ 15000000) ∧ (8 ≤ d) ∧ (g + (len (vv Θ123 l2) + 5).toNat ≤ G) ∧ ∀ (x127 : Int) (Θ127 : Th) (e127 : NewS Θ123 Θ127 x127 (vv Θ123 l2)) (n127 : nt Θ123 ≤ x127), Q x127 Θ127) : W2_X27_upTo_116 ω d G l0 l2 g Θ Q := sorry
set_option maxHeartbeats 4000000 in
theorem s2_X27_upTo_73 {ω : AO} {d G : Nat} {l0 l1 l2 : Int} {g : Nat} {Θ : Th} {Q : Int → Th → Prop} (hB : (kd Θ l0 = 40) ∧ ∀ (v74 : Int) (e74 : v74 = gt (vv Θ l0) 2) (r74 : -2147483648 ≤ v74 ∧ v74 < 2147483648), ∀ (v78 : Int) (e78 : v78 = gt (vv Θ l0) 0) (r78 : -1 ≤ v78), (1 ≤ d) ∧ (kd Θ v78 = 2) ∧ (2 ≤ d) ∧ (g ≤ G) ∧ ∀ (x81 : Int) (e81 : x81 = len (vv Θ v78)) (r81 : -2147483648 ≤ x81 ∧ x81 < 2147483648), (∀ (c84 : x81 ≤ v74), W2_X27_upTo_103 ω d G l0 l1 l2 (g) Θ Q) ∧ (∀ (c84 : v74 < x81), ∀ (v89 : Int) (e89 : v89 = gt (vv Θ l0) 0) (r89 : -1 ≤ v89), ∀ (v93 : Int) (e93 : v93 = gt (vv Θ l0) 2) (r93 : -2147483648 ≤ v93 ∧ v93 < 2147483648), (kd Θ v89 = 2) ∧ (0 ≤ v93 ∧ v93 < len (vv Θ v89)) ∧ (5 ≤ d) ∧ ∀ (x96 : Int) (e96 : x96 = gt (vv Θ v89) v93) (r96 : 0 ≤ x96 ∧ x96 < 65536), (kd Θ l2 = 1) ∧ (¬ fz Θ l2) ∧ (bC (cp Θ l2) (len (vv Θ l2) + 1) ≤ 20000000) ∧ (9 ≤ d) ∧ (g + (bK (bC (cp Θ l2) (len (vv Θ l2) + 1)) (if x96 ≤ 255 then cx Θ l2 else 1) - bK (cp Θ l2) (cx Θ l2)).toNat ≤ G) ∧ ∀ (Θ99 : Th) (t99 : Θ99 = uq Θ l2 (1, vv Θ l2 ++ [x96], bC (cp Θ l2) (len (vv Θ l2) + 1), if x96 ≤ 255 then cx Θ l2 else 1)), W2_X27_upTo_103 ω d G l0 l1 l2 (g + (bK (bC (cp Θ l2) (len (vv Θ l2) + 1)) (if x96 ≤ 255 then cx Θ l2 else 1) - bK (cp Θ l2) (cx Θ l2)).toNat) Θ99 Q)) : W2_X27_upTo_73 ω d G l0 l1 l2 g Θ Q := sorry
set_option maxHeartbeats 4000000 in
theorem s2_X27_upTo_103 {ω : AO} {d G : Nat} {l0 l1 l2 : Int} {g : Nat} {Θ : Th} {Q : Int → Th → Prop} (hB : (kd Θ l0 = 40) ∧ ∀ (v105 : Int) (e105 : v105 = gt (vv Θ l0) 2) (r105 : -2147483648 ≤ v105 ∧ v105 < 2147483648), (¬ fz Θ l0) ∧ (-2147483648 ≤ (v105 + 1) ∧ (v105 + 1) < 2147483648) ∧ ∀ (Θ110 : Th) (t110 : Θ110 = pf Θ l0 2 (v105 + 1)), W2_X27_upTo_18 ω d G l0 l1 l2 (g) Θ110 Q) : W2_X27_upTo_103 ω d G l0 l1 l2 g Θ Q := sorry
def W2_X27_comment_20 (ω : AO) (d G : Nat) (l0 l1 l2 : Int) (g : Nat) (Θ : Th) (Q : Th → Prop) : Prop := Hid (SJ2 ω yX27_comment cX27_comment 4 none d G (fun Sz Θz => (eU Sz (q2U ω Θz Q))) 20 [(2, l0), (2, l1), (0, l2), vN] [] g Θ)
def W2_X27_comment_146 (ω : AO) (d G : Nat) (l0 l1 : Int) (g : Nat) (Θ : Th) (Q : Th → Prop) : Prop := Hid (SJ2 ω yX27_comment cX27_comment 4 none d G (fun Sz Θz => (eU Sz (q2U ω Θz Q))) 146 [(2, l0), (2, l1), vN, vN] [] g Θ)
def W2_X27_comment_131 (ω : AO) (d G : Nat) (l0 l1 l3 s0 s1 : Int) (g : Nat) (Θ : Th) (Q : Th → Prop) : Prop := Hid (SJ2 ω yX27_comment cX27_comment 4 none d G (fun Sz Θz => (eU Sz (q2U ω Θz Q))) 131 [(2, l0), (2, l1), vN, (0, l3)] [(0, s0), (0, s1)] g Θ)
def W2_X27_comment_96 (ω : AO) (d G : Nat) (l0 l1 l2 : Int) (g : Nat) (Θ : Th) (Q : Th → Prop) : Prop := Hid (SJ2 ω yX27_comment cX27_comment 4 none d G (fun Sz Θz => (eU Sz (q2U ω Θz Q))) 96 [(2, l0), (2, l1), (0, l2), vN] [] g Θ)
set_option maxHeartbeats 4000000 in
theorem s2_X27_comment {ω : AO} {d G : Nat} {l0 : Int} {Θ : Th} {Q : Th → Prop} (hB : (0 + 1 ≤ G) ∧ ∀ (v0 : Int) (Θ0 : Th) (u0 : nt Θ ≤ v0 ∧ 0 ≤ v0) (b0 : Bl Θ) (t0 : Θ0 = nu Θ v0 (201, [], 0, 0)), (1 ≤ d) ∧ (3 ≤ d) ∧ (0 + 1 + 5 ≤ G) ∧ ∀ (Θ4 : Th) (t4 : Θ4 = uq Θ0 v0 (1, [], 16, 0)), (kd Θ4 l0 = 40) ∧ ∀ (v12 : Int) (e12 : v12 = gt (vv Θ4 l0) 2) (r12 : -2147483648 ≤ v12 ∧ v12 < 2147483648), (¬ fz Θ4 l0) ∧ (-2147483648 ≤ (v12 + 1) ∧ (v12 + 1) < 2147483648) ∧ ∀ (Θ17 : Th) (t17 : Θ17 = pf Θ4 l0 2 (v12 + 1)), W2_X27_comment_20 ω d G l0 v0 1 (0 + 1 + 5) Θ17 Q) : w2_X27_comment ω d G l0 Θ Q := sorry
set_option maxHeartbeats 4000000 in
theorem s2_X27_comment_20 {ω : AO} {d G : Nat} {l0 l1 l2 : Int} {g : Nat} {Θ : Th} {Q : Th → Prop} (hB : (kd Θ l0 = 40) ∧ ∀ (v21 : Int) (e21 : v21 = gt (vv Θ l0) 2) (r21 : -2147483648 ≤ v21 ∧ v21 < 2147483648), ∀ (v25 : Int) (e25 : v25 = gt (vv Θ l0) 0) (r25 : -1 ≤ v25), (1 ≤ d) ∧ (kd Θ v25 = 2) ∧ (2 ≤ d) ∧ (g ≤ G) ∧ ∀ (x28 : Int) (e28 : x28 = len (vv Θ v25)) (r28 : -2147483648 ≤ x28 ∧ x28 < 2147483648), (∀ (c31 : x28 ≤ v21), W2_X27_comment_146 ω d G l0 l1 (g) Θ Q) ∧ (∀ (c31 : v21 < x28), (-2147483648 ≤ l2 ∧ l2 < 2147483648) ∧ (∀ (c35 : l2 ≤ 0), W2_X27_comment_146 ω d G l0 l1 (g) Θ Q) ∧ (∀ (c35 : 0 < l2), ∀ (v39 : Int) (e39 : v39 = gt (vv Θ l0) 0) (r39 : -1 ≤ v39), ∀ (v43 : Int) (e43 : v43 = gt (vv Θ l0) 2) (r43 : -2147483648 ≤ v43 ∧ v43 < 2147483648), (kd Θ v39 = 2) ∧ (0 ≤ v43 ∧ v43 < len (vv Θ v39)) ∧ (5 ≤ d) ∧ ∀ (x46 : Int) (e46 : x46 = gt (vv Θ v39) v43) (r46 : 0 ≤ x46 ∧ x46 < 65536), ∀ (v52 : Int) (e52 : v52 = gt (vv Θ l0) 2) (r52 : -2147483648 ≤ v52 ∧ v52 < 2147483648), (¬ fz Θ l0) ∧ (-2147483648 ≤ (v52 + 1) ∧ (v52 + 1) < 2147483648) ∧ ∀ (Θ57 : Th) (t57 : Θ57 = pf Θ l0 2 (v52 + 1)), (∀ (c63 : ¬ x46 = 92), (∀ (c113 : ¬ x46 = 40), (∀ (c123 : ¬ x46 = 41), W2_X27_comment_131 ω d G l0 l1 x46 0 l2 (g) Θ57 Q) ∧ (∀ (c123 : x46 = 41), W2_X27_comment_131 ω d G l0 l1 x46 ((-1)) l2 (g) Θ57 Q)) ∧ (∀ (c113 : x46 = 40), W2_X27_comment_131 ω d G l0 l1 x46 1 l2 (g) Θ57 Q)) ∧ (∀ (c63 : x46 = 92), ∀ (v67 : Int) (e67 : v67 = gt (vv Θ57 l0) 2) (r67 : -2147483648 ≤ v67 ∧ v67 < 2147483648), ∀ (v71 : Int) (e71 : v71 = gt (vv Θ57 l0) 0) (r71 : -1 ≤ v71), (kd Θ57 v71 = 2) ∧ ∀ (x74 : Int) (e74 : x74 = len (vv Θ57 v71)) (r74 : -2147483648 ≤ x74 ∧ x74 < 2147483648), (∀ (c77 : x74 ≤ v67), W2_X27_comment_96 ω d G l0 l1 l2 (g) Θ57 Q) ∧ (∀ (c77 : v67 < x74), ∀ (v82 : Int) (e82 : v82 = gt (vv Θ57 l0) 0) (r82 : -1 ≤ v82), ∀ (v86 : Int) (e86 : v86 = gt (vv Θ57 l0) 2) (r86 : -2147483648 ≤ v86 ∧ v86 < 2147483648), (kd Θ57 v82 = 2) ∧ (0 ≤ v86 ∧ v86 < len (vv Θ57 v82)) ∧ ∀ (x89 : Int) (e89 : x89 = gt (vv Θ57 v82) v86) (r89 : 0 ≤ x89 ∧ x89 < 65536), (kd Θ57 l1 = 1) ∧ (¬ fz Θ57 l1) ∧ (bC (cp Θ57 l1) (len (vv Θ57 l1) + 1) ≤ 20000000) ∧ (9 ≤ d) ∧ (g + (bK (bC (cp Θ57 l1) (len (vv Θ57 l1) + 1)) (if x89 ≤ 255 then cx Θ57 l1 else 1) - bK (cp Θ57 l1) (cx Θ57 l1)).toNat ≤ G) ∧ ∀ (Θ92 : Th) (t92 : Θ92 = uq Θ57 l1 (1, vv Θ57 l1 ++ [x89], bC (cp Θ57 l1) (len (vv Θ57 l1) + 1), if x89 ≤ 255 then cx Θ57 l1 else 1)), W2_X27_comment_96 ω d G l0 l1 l2 (g + (bK (bC (cp Θ57 l1) (len (vv Θ57 l1) + 1)) (if x89 ≤ 255 then cx Θ57 l1 else 1) - bK (cp Θ57 l1) (cx Θ57 l1)).toNat) Θ92 Q))))) : W2_X27_comment_20 ω d G l0 l1 l2 g Θ Q := sorry
set_option maxHeartbeats 4000000 in
theorem s2_X27_comment_146 {ω : AO} {d G : Nat} {l0 l1 : Int} {g : Nat} {Θ : Th} {Q : Th → Prop} (hB : (kd Θ l0 = 40) ∧ ∀ (v147 : Int) (e147 : v147 = gt (vv Θ l0) 1) (r147 : -1 ≤ v147), (g + 1 ≤ G) ∧ ∀ (v150 : Int) (Θ150 : Th) (u150 : nt Θ ≤ v150 ∧ 0 ≤ v150) (b150 : Bl Θ) (t150 : Θ150 = nu Θ v150 (41, [-1, -1], 0, 0)), (1 ≤ d) ∧ (kd Θ150 l1 = 1) ∧ (len (vv Θ150 l1) ≤ 15000000) ∧ (8 ≤ d) ∧ (g + 1 + (len (vv Θ150 l1) + 5).toNat ≤ G) ∧ ∀ (x158 : Int) (Θ158 : Th) (e158 : NewS Θ150 Θ158 x158 (vv Θ150 l1)) (n158 : nt Θ150 ≤ x158), ∃ G161 : Nat, (g + 1 + (len (vv Θ150 l1) + 5).toNat + G161 ≤ G) ∧ w2_X28_init ω (d - 1) G161 v150 ((ω.2.2.1 "#V" 13 : Int) - 1) x158 Θ158 (fun Θ161 => ∀ (L161 : Le Θ158 Θ161), (kd Θ161 v147 = 3) ∧ (¬ fz Θ161 v147) ∧ (rf Θ161 v150) ∧ (adC (cp Θ161 v147) (len (vv Θ161 v147)) ≤ 60000000) ∧ (7 ≤ d) ∧ (g + 1 + (len (vv Θ150 l1) + 5).toNat + G161 + (adC (cp Θ161 v147) (len (vv Θ161 v147)) - cp Θ161 v147).toNat ≤ G) ∧ ∀ (k164 : Int) (Θ164 : Th) (t164 : Θ164 = uq Θ161 v147 (3, vv Θ161 v147 ++ [v150], adC (cp Θ161 v147) (len (vv Θ161 v147)), k164)), Q Θ164)) : W2_X27_comment_146 ω d G l0 l1 g Θ Q := sorry
set_option maxHeartbeats 4000000 in
theorem s2_X27_comment_131 {ω : AO} {d G : Nat} {l0 l1 l3 s0 s1 : Int} {g : Nat} {Θ : Th} {Q : Th → Prop} (hB : (-2147483648 ≤ (s1 + s0) ∧ (s1 + s0) < 2147483648) ∧ (∀ (c134 : (s1 + s0) ≤ 0), W2_X27_comment_20 ω d G l0 l1 ((s1 + s0)) (g) Θ Q) ∧ (∀ (c134 : 0 < (s1 + s0)), (1 ≤ d) ∧ (kd Θ l1 = 1) ∧ (¬ fz Θ l1) ∧ (bC (cp Θ l1) (len (vv Θ l1) + 1) ≤ 20000000) ∧ (0 ≤ l3 ∧ l3 < 65536) ∧ (9 ≤ d) ∧ (g + (bK (bC (cp Θ l1) (len (vv Θ l1) + 1)) (if l3 ≤ 255 then cx Θ l1 else 1) - bK (cp Θ l1) (cx Θ l1)).toNat ≤ G) ∧ ∀ (Θ139 : Th) (t139 : Θ139 = uq Θ l1 (1, vv Θ l1 ++ [l3], bC (cp Θ l1) (len (vv Θ l1) + 1), if l3 ≤ 255 then cx Θ l1 else 1)), W2_X27_comment_20 ω d G l0 l1 ((s1 + s0)) (g + (bK (bC (cp Θ l1) (len (vv Θ l1) + 1)) (if l3 ≤ 255 then cx Θ l1 else 1) - bK (cp Θ l1) (cx Θ l1)).toNat) Θ139 Q)) : W2_X27_comment_131 ω d G l0 l1 l3 s0 s1 g Θ Q := sorry
set_option maxHeartbeats 4000000 in
theorem s2_X27_comment_96 {ω : AO} {d G : Nat} {l0 l1 l2 : Int} {g : Nat} {Θ : Th} {Q : Th → Prop} (hB : (kd Θ l0 = 40) ∧ ∀ (v98 : Int) (e98 : v98 = gt (vv Θ l0) 2) (r98 : -2147483648 ≤ v98 ∧ v98 < 2147483648), (¬ fz Θ l0) ∧ (-2147483648 ≤ (v98 + 1) ∧ (v98 + 1) < 2147483648) ∧ ∀ (Θ103 : Th) (t103 : Θ103 = pf Θ l0 2 (v98 + 1)), W2_X27_comment_20 ω d G l0 l1 l2 (g) Θ103 Q) : W2_X27_comment_96 ω d G l0 l1 l2 g Θ Q := sorry
def W2_X27_all_0 (ω : AO) (d G : Nat) (l0 : Int) (g : Nat) (Θ : Th) (Q : Int → Th → Prop) : Prop := Hid (SJ2 ω yX27_all cX27_all 3 (some (.object "java/util/ArrayList")) d G (fun Sz Θz => (eA Sz (q2 ω Θz Q))) 0 [(2, l0), vN, vN] [] g Θ)
def W2_X27_all_185 (ω : AO) (d G : Nat) (l0 l2 : Int) (g : Nat) (Θ : Th) (Q : Int → Th → Prop) : Prop := Hid (SJ2 ω yX27_all cX27_all 3 (some (.object "java/util/ArrayList")) d G (fun Sz Θz => (eA Sz (q2 ω Θz Q))) 185 [(2, l0), vN, (0, l2)] [] g Θ)
def W2_X27_all_230 (ω : AO) (d G : Nat) (l0 l2 : Int) (g : Nat) (Θ : Th) (Q : Int → Th → Prop) : Prop := Hid (SJ2 ω yX27_all cX27_all 3 (some (.object "java/util/ArrayList")) d G (fun Sz Θz => (eA Sz (q2 ω Θz Q))) 230 [(2, l0), vN, (0, l2)] [] g Θ)
set_option maxHeartbeats 4000000 in
theorem s2_X27_all {ω : AO} {d G : Nat} {l0 : Int} {Θ : Th} {Q : Int → Th → Prop} (hB : W2_X27_all_0 ω d G l0 0 Θ Q) : w2_X27_all ω d G l0 Θ Q := sorry
set_option maxHeartbeats 4000000 in
theorem s2_X27_all_0 {ω : AO} {d G : Nat} {l0 : Int} {g : Nat} {Θ : Th} {Q : Int → Th → Prop} (hB : (kd Θ l0 = 40) ∧ ∀ (v1 : Int) (e1 : v1 = gt (vv Θ l0) 2) (r1 : -2147483648 ≤ v1 ∧ v1 < 2147483648), ∀ (v5 : Int) (e5 : v5 = gt (vv Θ l0) 0) (r5 : -1 ≤ v5), (1 ≤ d) ∧ (kd Θ v5 = 2) ∧ (2 ≤ d) ∧ (g ≤ G) ∧ ∀ (x8 : Int) (e8 : x8 = len (vv Θ v5)) (r8 : -2147483648 ≤ x8 ∧ x8 < 2147483648), (∀ (c11 : x8 ≤ v1), ∀ (v264 : Int) (e264 : v264 = gt (vv Θ l0) 1) (r264 : -1 ≤ v264), Q v264 Θ) ∧ (∀ (c11 : v1 < x8), ∀ (v15 : Int) (e15 : v15 = gt (vv Θ l0) 0) (r15 : -1 ≤ v15), ∀ (v19 : Int) (e19 : v19 = gt (vv Θ l0) 2) (r19 : -2147483648 ≤ v19 ∧ v19 < 2147483648), (kd Θ v15 = 2) ∧ (0 ≤ v19 ∧ v19 < len (vv Θ v15)) ∧ (5 ≤ d) ∧ ∀ (x22 : Int) (e22 : x22 = gt (vv Θ v15) v19) (r22 : 0 ≤ x22 ∧ x22 < 65536), ∀ (x27 : Int) (e27 : x27 = if chNo x22 then 1 else 0) (r27 : x27 = 0 ∨ x27 = 1), (∀ (c30 : x27 = 0), (∀ (c49 : ¬ x22 = 40), (∀ (c62 : ¬ x22 = 34), (∀ (c95 : ¬ x22 = 91), (8 ≤ d) ∧ ∀ (x126 : Int) (e126 : x126 = if 0 ≤ idx chSg x22 0 then 1 else 0) (r126 : x126 = 0 ∨ x126 = 1), (∀ (c129 : x126 = 0), ∀ (v181 : Int) (e181 : v181 = gt (vv Θ l0) 2) (r181 : -2147483648 ≤ v181 ∧ v181 < 2147483648), W2_X27_all_185 ω d G l0 v181 (g) Θ Q) ∧ (∀ (c129 : ¬ x126 = 0), ∀ (v133 : Int) (e133 : v133 = gt (vv Θ l0) 1) (r133 : -1 ≤ v133), (g + 1 ≤ G) ∧ ∀ (v136 : Int) (Θ136 : Th) (u136 : nt Θ ≤ v136 ∧ 0 ≤ v136) (b136 : Bl Θ) (t136 : Θ136 = nu Θ v136 (41, [-1, -1], 0, 0)), ∀ (v144 : Int) (e144 : v144 = gt (vv Θ136 l0) 0) (r144 : -1 ≤ v144), ∀ (v148 : Int) (e148 : v148 = gt (vv Θ136 l0) 2) (r148 : -2147483648 ≤ v148 ∧ v148 < 2147483648), ∀ (v152 : Int) (e152 : v152 = gt (vv Θ136 l0) 2) (r152 : -2147483648 ≤ v152 ∧ v152 < 2147483648), (kd Θ136 v144 = 2) ∧ (0 ≤ v148 ∧ v148 ≤ (v152 + 1) ∧ (v152 + 1) ≤ len (vv Θ136 v144)) ∧ (v148 < (v152 + 1) ∨ wide (vv Θ136 v144) = 0 ∨ vv Θ136 v144 = []) ∧ (7 ≤ d) ∧ (g + 1 + ((v152 + 1) - v148 + 5).toNat ≤ G) ∧ ∀ (x157 : Int) (Θ157 : Th) (e157 : NewS Θ136 Θ157 x157 (sub (vv Θ136 v144) v148 (v152 + 1))), ∃ G160 : Nat, (g + 1 + ((v152 + 1) - v148 + 5).toNat + G160 ≤ G) ∧ w2_X28_init ω (d - 1) G160 v136 ((ω.2.2.1 "#V" 12 : Int) - 1) x157 Θ157 (fun Θ160 => ∀ (L160 : Le Θ157 Θ160), (kd Θ160 v133 = 3) ∧ (¬ fz Θ160 v133) ∧ (rf Θ160 v136) ∧ (adC (cp Θ160 v133) (len (vv Θ160 v133)) ≤ 60000000) ∧ (g + 1 + ((v152 + 1) - v148 + 5).toNat + G160 + (adC (cp Θ160 v133) (len (vv Θ160 v133)) - cp Θ160 v133).toNat ≤ G) ∧ ∀ (k163 : Int) (Θ163 : Th) (t163 : Θ163 = uq Θ160 v133 (3, vv Θ160 v133 ++ [v136], adC (cp Θ160 v133) (len (vv Θ160 v133)), k163)), ∀ (v169 : Int) (e169 : v169 = gt (vv Θ163 l0) 2) (r169 : -2147483648 ≤ v169 ∧ v169 < 2147483648), (¬ fz Θ163 l0) ∧ (-2147483648 ≤ (v169 + 1) ∧ (v169 + 1) < 2147483648) ∧ ∀ (Θ174 : Th) (t174 : Θ174 = pf Θ163 l0 2 (v169 + 1)), W2_X27_all_0 ω d G l0 (g + 1 + ((v152 + 1) - v148 + 5).toNat + G160 + (adC (cp Θ160 v133) (len (vv Θ160 v133)) - cp Θ160 v133).toNat) Θ174 Q))) ∧ (∀ (c95 : x22 = 91), ∀ (v99 : Int) (e99 : v99 = gt (vv Θ l0) 1) (r99 : -1 ≤ v99), (g + 1 ≤ G) ∧ ∀ (v102 : Int) (Θ102 : Th) (u102 : nt Θ ≤ v102 ∧ 0 ≤ v102) (b102 : Bl Θ) (t102 : Θ102 = nu Θ v102 (41, [-1, -1], 0, 0)), ∃ G112 : Nat, (g + 1 + G112 ≤ G) ∧ w2_X27_upTo ω (d - 1) G112 l0 93 Θ102 (fun x112 Θ112 => ∀ (L112 : Le Θ102 Θ112) (r112 : -1 ≤ x112), ∃ G115 : Nat, (g + 1 + G112 + G115 ≤ G) ∧ w2_X28_init ω (d - 1) G115 v102 ((ω.2.2.1 "#V" 11 : Int) - 1) x112 Θ112 (fun Θ115 => ∀ (L115 : Le Θ112 Θ115), (kd Θ115 v99 = 3) ∧ (¬ fz Θ115 v99) ∧ (rf Θ115 v102) ∧ (adC (cp Θ115 v99) (len (vv Θ115 v99)) ≤ 60000000) ∧ (7 ≤ d) ∧ (g + 1 + G112 + G115 + (adC (cp Θ115 v99) (len (vv Θ115 v99)) - cp Θ115 v99).toNat ≤ G) ∧ ∀ (k118 : Int) (Θ118 : Th) (t118 : Θ118 = uq Θ115 v99 (3, vv Θ115 v99 ++ [v102], adC (cp Θ115 v99) (len (vv Θ115 v99)), k118)), W2_X27_all_0 ω d G l0 (g + 1 + G112 + G115 + (adC (cp Θ115 v99) (len (vv Θ115 v99)) - cp Θ115 v99).toNat) Θ118 Q)))) ∧ (∀ (c62 : x22 = 34), ∀ (v66 : Int) (e66 : v66 = gt (vv Θ l0) 1) (r66 : -1 ≤ v66), (g + 1 ≤ G) ∧ ∀ (v69 : Int) (Θ69 : Th) (u69 : nt Θ ≤ v69 ∧ 0 ≤ v69) (b69 : Bl Θ) (t69 : Θ69 = nu Θ v69 (41, [-1, -1], 0, 0)), ∃ G79 : Nat, (g + 1 + G79 ≤ G) ∧ w2_X27_upTo ω (d - 1) G79 l0 34 Θ69 (fun x79 Θ79 => ∀ (L79 : Le Θ69 Θ79) (r79 : -1 ≤ x79), ∃ G82 : Nat, (g + 1 + G79 + G82 ≤ G) ∧ w2_X28_init ω (d - 1) G82 v69 ((ω.2.2.1 "#V" 10 : Int) - 1) x79 Θ79 (fun Θ82 => ∀ (L82 : Le Θ79 Θ82), (kd Θ82 v66 = 3) ∧ (¬ fz Θ82 v66) ∧ (rf Θ82 v69) ∧ (adC (cp Θ82 v66) (len (vv Θ82 v66)) ≤ 60000000) ∧ (7 ≤ d) ∧ (g + 1 + G79 + G82 + (adC (cp Θ82 v66) (len (vv Θ82 v66)) - cp Θ82 v66).toNat ≤ G) ∧ ∀ (k85 : Int) (Θ85 : Th) (t85 : Θ85 = uq Θ82 v66 (3, vv Θ82 v66 ++ [v69], adC (cp Θ82 v66) (len (vv Θ82 v66)), k85)), W2_X27_all_0 ω d G l0 (g + 1 + G79 + G82 + (adC (cp Θ82 v66) (len (vv Θ82 v66)) - cp Θ82 v66).toNat) Θ85 Q)))) ∧ (∀ (c49 : x22 = 40), ∃ G53 : Nat, (g + G53 ≤ G) ∧ w2_X27_comment ω (d - 1) G53 l0 Θ (fun Θ53 => ∀ (L53 : Le Θ Θ53), W2_X27_all_0 ω d G l0 (g + G53) Θ53 Q))) ∧ (∀ (c30 : ¬ x27 = 0), ∀ (v35 : Int) (e35 : v35 = gt (vv Θ l0) 2) (r35 : -2147483648 ≤ v35 ∧ v35 < 2147483648), (¬ fz Θ l0) ∧ (-2147483648 ≤ (v35 + 1) ∧ (v35 + 1) < 2147483648) ∧ ∀ (Θ40 : Th) (t40 : Θ40 = pf Θ l0 2 (v35 + 1)), W2_X27_all_0 ω d G l0 (g) Θ40 Q))) : W2_X27_all_0 ω d G l0 g Θ Q := sorry
set_option maxHeartbeats 4000000 in
theorem s2_X27_all_185 {ω : AO} {d G : Nat} {l0 l2 : Int} {g : Nat} {Θ : Th} {Q : Int → Th → Prop} (hB : (kd Θ l0 = 40) ∧ ∀ (v186 : Int) (e186 : v186 = gt (vv Θ l0) 2) (r186 : -2147483648 ≤ v186 ∧ v186 < 2147483648), ∀ (v190 : Int) (e190 : v190 = gt (vv Θ l0) 0) (r190 : -1 ≤ v190), (1 ≤ d) ∧ (kd Θ v190 = 2) ∧ (2 ≤ d) ∧ (g ≤ G) ∧ ∀ (x193 : Int) (e193 : x193 = len (vv Θ v190)) (r193 : -2147483648 ≤ x193 ∧ x193 < 2147483648), (∀ (c196 : x193 ≤ v186), W2_X27_all_230 ω d G l0 l2 (g) Θ Q) ∧ (∀ (c196 : v186 < x193), ∀ (v201 : Int) (e201 : v201 = gt (vv Θ l0) 0) (r201 : -1 ≤ v201), ∀ (v205 : Int) (e205 : v205 = gt (vv Θ l0) 2) (r205 : -2147483648 ≤ v205 ∧ v205 < 2147483648), (kd Θ v201 = 2) ∧ (0 ≤ v205 ∧ v205 < len (vv Θ v201)) ∧ (5 ≤ d) ∧ ∀ (x208 : Int) (e208 : x208 = gt (vv Θ v201) v205) (r208 : 0 ≤ x208 ∧ x208 < 65536), ∃ G211 : Nat, (g + G211 ≤ G) ∧ w2_X27_isPart ω (d - 1) G211 l0 x208 Θ (fun x211 Θ211 => ∀ (L211 : Le Θ Θ211) (r211 : x211 = 0 ∨ x211 = 1), (∀ (c214 : x211 = 0), W2_X27_all_230 ω d G l0 l2 (g + G211) Θ211 Q) ∧ (∀ (c214 : ¬ x211 = 0), ∀ (v219 : Int) (e219 : v219 = gt (vv Θ211 l0) 2) (r219 : -2147483648 ≤ v219 ∧ v219 < 2147483648), (¬ fz Θ211 l0) ∧ (-2147483648 ≤ (v219 + 1) ∧ (v219 + 1) < 2147483648) ∧ ∀ (Θ224 : Th) (t224 : Θ224 = pf Θ211 l0 2 (v219 + 1)), W2_X27_all_185 ω d G l0 l2 (g + G211) Θ224 Q)))) : W2_X27_all_185 ω d G l0 l2 g Θ Q := sorry
set_option maxHeartbeats 4000000 in
theorem s2_X27_all_230 {ω : AO} {d G : Nat} {l0 l2 : Int} {g : Nat} {Θ : Th} {Q : Int → Th → Prop} (hB : (kd Θ l0 = 40) ∧ ∀ (v231 : Int) (e231 : v231 = gt (vv Θ l0) 1) (r231 : -1 ≤ v231), (g + 1 ≤ G) ∧ ∀ (v234 : Int) (Θ234 : Th) (u234 : nt Θ ≤ v234 ∧ 0 ≤ v234) (b234 : Bl Θ) (t234 : Θ234 = nu Θ v234 (41, [-1, -1], 0, 0)), ∀ (v242 : Int) (e242 : v242 = gt (vv Θ234 l0) 0) (r242 : -1 ≤ v242), ∀ (v247 : Int) (e247 : v247 = gt (vv Θ234 l0) 2) (r247 : -2147483648 ≤ v247 ∧ v247 < 2147483648), (1 ≤ d) ∧ (kd Θ234 v242 = 2) ∧ (0 ≤ l2 ∧ l2 ≤ v247 ∧ v247 ≤ len (vv Θ234 v242)) ∧ (l2 < v247 ∨ wide (vv Θ234 v242) = 0 ∨ vv Θ234 v242 = []) ∧ (7 ≤ d) ∧ (g + 1 + (v247 - l2 + 5).toNat ≤ G) ∧ ∀ (x250 : Int) (Θ250 : Th) (e250 : NewS Θ234 Θ250 x250 (sub (vv Θ234 v242) l2 v247)), ∃ G253 : Nat, (g + 1 + (v247 - l2 + 5).toNat + G253 ≤ G) ∧ w2_X28_init ω (d - 1) G253 v234 ((ω.2.2.1 "#V" 9 : Int) - 1) x250 Θ250 (fun Θ253 => ∀ (L253 : Le Θ250 Θ253), (kd Θ253 v231 = 3) ∧ (¬ fz Θ253 v231) ∧ (rf Θ253 v234) ∧ (adC (cp Θ253 v231) (len (vv Θ253 v231)) ≤ 60000000) ∧ (g + 1 + (v247 - l2 + 5).toNat + G253 + (adC (cp Θ253 v231) (len (vv Θ253 v231)) - cp Θ253 v231).toNat ≤ G) ∧ ∀ (k256 : Int) (Θ256 : Th) (t256 : Θ256 = uq Θ253 v231 (3, vv Θ253 v231 ++ [v234], adC (cp Θ253 v231) (len (vv Θ253 v231)), k256)), W2_X27_all_0 ω d G l0 (g + 1 + (v247 - l2 + 5).toNat + G253 + (adC (cp Θ253 v231) (len (vv Θ253 v231)) - cp Θ253 v231).toNat) Θ256 Q)) : W2_X27_all_230 ω d G l0 l2 g Θ Q := sorry
/-! 62.ab.lean.txt -/
/-! words of a value -/
set_option maxRecDepth 100000
section VAL
variable {ω : AO} {Θ Θ1 Θ2 : Th} {a b k x : Int} {t : Nat} {l m : List Int} {c e : Int} {cl : Cl} {ex : Int → Prop} {A : Int → Prop}
theorem pf_at (h : xo Θ a = (t, l, c, e)) : xo (pf Θ a k x) a = (t, l.set k.toNat x, c, e) := by
  rw [xo_pfA, kd_of h, vl_of h, cp_of h, cx_of h]
theorem Gr.tx (h : Gr Θ Θ1) (h2 : GrX ex Θ1 Θ2) (he : ∀ b, ex b → kd Θ b = 0) : Gr Θ Θ2 := sorry
theorem GrX.frz (h : GrX ex Θ Θ1) (hA : ∀ b, A b → kd Θ b = 0) : GrX ex Θ (fr Θ1 A) := sorry
theorem GrX.mono {ex2 : Int → Prop} (h : GrX ex Θ Θ1) (hh : ∀ b, 0 < kd Θ b → ex b → ex2 b) : GrX ex2 Θ Θ1 := ⟨h.1, h.2.1.mono hh, h.2.2⟩
theorem GrX.keep (h : GrX ex Θ Θ1) (h0 : 0 < kd Θ b) (hn : ¬ ex b) : xo Θ1 b = xo Θ b := h.2.1 b h0 hn
/-- the five kinds are different objects -/
def KN (ω : AO) : Prop := (∀ i j, 9 ≤ i → i < 14 → 9 ≤ j → j < 14 → sv ω i = sv ω j → i = j) ∧ ∀ i, 9 ≤ i → i < 14 → 0 ≤ sv ω i
theorem knA {X : AS → Prop} (h : KN ω → Bl Θ → Hid (∀ S, bel S → R2 ω S Θ → X S)) : Hid (∀ S, bel S → R2 ω S Θ → X S) := sorry
/-- objects one by one show values -/
def all2 {α : Type} (P : Int → α → Prop) : List Int → List α → Prop
  | [], [] => True
  | r :: rs, x :: xs => P r x ∧ all2 P rs xs
  | [], _ :: _ => False
  | _ :: _, [] => False
section ALL2
variable {α : Type} {P P' : Int → α → Prop}
theorem all2.mono (hh : ∀ r x, P r x → P' r x) : ∀ {rs : List Int} {xs : List α}, all2 P rs xs → all2 P' rs xs := sorry
theorem all2.app : ∀ {rs rs' : List Int} {xs xs' : List α}, all2 P rs xs → all2 P rs' xs' → all2 P (rs ++ rs') (xs ++ xs') := sorry
theorem all2.one {r : Int} {x : α} (h : P r x) : all2 P [r] [x] := ⟨h, trivial⟩
theorem all2.leq : ∀ {rs : List Int} {xs : List α}, all2 P rs xs → rs.length = xs.length := sorry
theorem all2.drop : ∀ {rs : List Int} {xs : List α}, all2 P rs xs → ∀ n : Nat, all2 P (rs.drop n) (xs.drop n) := sorry
theorem all2.take : ∀ {rs : List Int} {xs : List α}, all2 P rs xs → ∀ n : Nat, all2 P (rs.take n) (xs.take n) := sorry
theorem all2.at {rs : List Int} {xs : List α} (h : all2 P rs xs) (h0 : 0 ≤ k ∧ k < len rs) : ∃ x, xs.drop k.toNat = x :: xs.drop (k + 1).toNat ∧ P (gt rs k) x ∧ xs[k.toNat]? = some x := sorry
end ALL2
/-- a word: its kind (9 atom, 10 quoted, 11 literal, 12 sign, 13 comment), its text -/
abbrev Wo : Type := Nat × List Int
def CutO (ω : AO) (Θ : Th) (r : Int) (w : Wo) : Prop := ∃ t, Fx Θ r (41, [sv ω w.1, t], 0, 0) ∧ Str Θ t w.2 ∧ 9 ≤ w.1 ∧ w.1 < 14
theorem CutO.le {r : Int} {w : Wo} (h : CutO ω Θ r w) (L : Le Θ Θ1) : CutO ω Θ1 r w := sorry
theorem CutO.kd {r : Int} {w : Wo} (h : CutO ω Θ r w) : kd Θ r = 41 := by obtain ⟨t, h1, -⟩ := h; exact kd_of h1.2
theorem CutO.k0 {r : Int} {w : Wo} (h : CutO ω Θ r w) : gt (vv Θ r) 0 = sv ω w.1 := by obtain ⟨t, h1, -⟩ := h; rw [vl_of h1.2]; rfl
theorem CutO.tx {r : Int} {w : Wo} (h : CutO ω Θ r w) : Str Θ (gt (vv Θ r) 1) w.2 := by obtain ⟨t, h1, h2, -⟩ := h; rw [vl_of h1.2]; exact h2
theorem CutO.kw {r : Int} {w : Wo} (h : CutO ω Θ r w) : 9 ≤ w.1 ∧ w.1 < 14 := by obtain ⟨t, h1, h2, h3⟩ := h; exact h3
theorem CutO.iff {r : Int} {w : Wo} (K : KN ω) (h : CutO ω Θ r w) {i : Nat} (hi : 9 ≤ i ∧ i < 14) : gt (vv Θ r) 0 = sv ω i ↔ w.1 = i := sorry
theorem LI.sh {l : List Int} {c : Int} {g0 g : Nat} (h : LI l c g0 g) (x : Nat) : LI l c (g0 + x) (g + x) := sorry
end VAL
theorem u_X28_init {ω : AO} {d G : Nat} {r t : Int} {i : Nat} {c e : Int} {Θ : Th} {u v : Int} {Q : Th → Prop} (hd : 1 ≤ d) (h : xo Θ r = (41, [u, v], c, e)) (hf : ¬ fz Θ r) (ht : 0 < kd Θ t) (hi : 9 ≤ i ∧ i < 14)
    (hQ : Q (fr (uq Θ r (41, [sv ω i, t], c, e)) (fun b => b = r))) : w2_X28_init ω d G r (sv ω i) t Θ Q := sorry
/-- a word that was made -/
theorem CutO.made {ω : AO} {Θ : Th} {r t c e : Int} {i : Nat} {l : List Int} (hs : Str Θ t l) (hrt : t ≠ r) (hi : 9 ≤ i ∧ i < 14) (hc : c = 0 ∧ e = 0) : CutO ω (fr (uq Θ r (41, [sv ω i, t], c, e)) (fun b => b = r)) r (i, l) := sorry
theorem u_X28_isAtom {ω : AO} {d G : Nat} {r : Int} {w : Wo} {Θ : Th} {Q : Int → Th → Prop} (h : CutO ω Θ r w) (hQ : ∀ x, x = (if w.1 = 9 then 1 else 0) → Q x Θ) : w2_X28_isAtom ω d G r Θ Q := sorry
theorem u_X28_isPlain {ω : AO} {d G : Nat} {r : Int} {w : Wo} {Θ : Th} {Q : Int → Th → Prop} (h : CutO ω Θ r w) (hQ : ∀ x, x = (if w.1 = 9 ∨ w.1 = 10 then 1 else 0) → Q x Θ) : w2_X28_isPlain ω d G r Θ Q := sorry
/-- whether a word is a sign -/
abbrev isG (w : Wo) (c : Int) : Prop := w.1 = 12 ∧ gt w.2 0 = c
theorem u_X28_is {ω : AO} {d G : Nat} {r q : Int} {w : Wo} {Θ : Th} {Q : Int → Th → Prop} (hd : 5 ≤ d) (h : CutO ω Θ r w) (hn : w.1 = 12 → 0 < len w.2) (hq : inI q) (hQ1 : isG w q → Q 1 Θ) (hQ0 : ¬ isG w q → Q 0 Θ) : w2_X28_is ω d G r q Θ Q := sorry
/-! Cutter -/
abbrev ptP (c : Int) : Prop := ¬ chNo c ∧ idx chSg c 0 < 0 ∧ c ≠ 40 ∧ c ≠ 34 ∧ c ≠ 91
def ptB (c : Int) : Bool := decide (ptP c)
theorem u_X27_isPart {ω : AO} {d G : Nat} {a c : Int} {Θ : Th} {Q : Int → Th → Prop} (hd : 8 ≤ d) (hc : 0 ≤ c ∧ c < 65536) (hQ : ∀ x, x = (if ptP c then 1 else 0) → Q x Θ) : w2_X27_isPart ω d G a c Θ Q := sorry
def esc (l : List Int) (k : Int) : Int := if gt l k = 92 then k + 1 else k
theorem esc_in {l : List Int} {k : Int} : k ≤ esc l k ∧ esc l k ≤ k + 1 := sorry
def pc1 (l : List Int) (k : Int) : List Int := if k < len l then [gt l k] else []
theorem pc1_len {l : List Int} {k : Int} : len (pc1 l k) ≤ 1 := sorry
/-- the text up to a sign, and where it ends -/
def upT (l : List Int) (q k : Int) : List Int :=
  if h : 0 ≤ k ∧ k < len l ∧ gt l k ≠ q then pc1 l (esc l k) ++ upT l q (esc l k + 1) else []
termination_by (len l - k).toNat
decreasing_by
  have := esc_in (l := l) (k := k)
  omega
def upE (l : List Int) (q k : Int) : Int :=
  if h : 0 ≤ k ∧ k < len l ∧ gt l k ≠ q then upE l q (esc l k + 1) else k
termination_by (len l - k).toNat
decreasing_by
  have := esc_in (l := l) (k := k)
  omega
theorem up_in {l : List Int} {q : Int} : ∀ (N : Nat) (k : Int), (len l + 1 - k).toNat = N → 0 ≤ k → k ≤ len l + 1 → k ≤ upE l q k ∧ upE l q k ≤ len l + 1 ∧ len (upT l q k) ≤ upE l q k - k := sorry
/-- the Cutter at another place -/
theorem cu_pf {Θ Θ1 Θ2 : Th} {a s w j x : Int} {ex : Int → Prop} (hg : GrX ex Θ Θ1) (hx : ex a) (hf : ¬ fz Θ1 a) (ha : xo Θ1 a = (40, [s, w, j], 0, 0)) (t : Θ2 = pf Θ1 a 2 x) :
    xo Θ2 a = (40, [s, w, x], 0, 0) ∧ GrX ex Θ Θ2 ∧ (∀ b, b ≠ a → xo Θ2 b = xo Θ1 b) ∧ ∀ b, ¬ fz Θ1 b → ¬ fz Θ2 b := sorry
theorem u_X27_upTo {ω : AO} {d G : Nat} {a q s w k : Int} {l : List Int} {Θ : Th} {Q : Int → Th → Prop} (hd : 9 ≤ d) (h : xo Θ a = (40, [s, w, k], 0, 0)) (hf : ¬ fz Θ a) (hs : Str Θ s l) (hk : 0 ≤ k ∧ k < len l) (hl : len l ≤ 1000000) (hq : 0 ≤ q ∧ q < 65536)
    (hG : 5 * len (upT l q (k + 1)) + 27 ≤ (G : Int)) (hQ : ∀ r Θ', GrX (· = a) Θ Θ' → xo Θ' a = (40, [s, w, upE l q (k + 1) + 1], 0, 0) → Str Θ' r (upT l q (k + 1)) → Q r Θ') : w2_X27_upTo ω d G a q Θ Q := sorry
/-! 62.ac.lean.txt -/
/-! the Cutter: comments, all words -/
set_option maxRecDepth 100000
section CMX
variable {ω : AO} {Θ Θ1 Θ2 Θ3 Θ4 : Th} {r t w k : Int} {i : Nat} {rs txt : List Int} {c e : Int} {ex : Int → Prop}
theorem GrX.trk (h : GrX ex Θ Θ1) (h2 : GrX ex Θ1 Θ2) (hk : ∀ b, ex b → 0 < kd Θ b ∧ kd Θ b < 200) : GrX ex Θ Θ2 := sorry
theorem cut_mk (hg : GrX ex Θ Θ2) (hr : kd Θ r = 0) (hfr : ¬ fz Θ2 r) (hxr : xo Θ2 r = (41, [-1, -1], 0, 0)) (hs : Str Θ2 t txt) (hi : 9 ≤ i ∧ i < 14) (hw : xo Θ2 w = (3, rs, c, e)) (hfw : ¬ fz Θ2 w)
    (e3 : Θ3 = fr (uq Θ2 r (41, [sv ω i, t], 0, 0)) (fun b => b = r)) :
    GrX ex Θ Θ3 ∧ CutO ω Θ3 r (i, txt) ∧ xo Θ3 w = (3, rs, c, e) ∧ ¬ fz Θ3 w ∧ rf Θ3 r ∧ (∀ b, b ≠ r → xo Θ3 b = xo Θ2 b ∧ (¬ fz Θ2 b → ¬ fz Θ3 b)) ∧ adC (cp Θ3 w) (len (vv Θ3 w)) = adC c (len rs) ∧ cp Θ3 w = c := sorry
theorem lst_ad {x : Int} (hg : GrX ex Θ Θ3) (hx : ex w) (hw : xo Θ3 w = (3, rs, c, e)) (hfw : ¬ fz Θ3 w) (t : Θ4 = uq Θ3 w (3, vv Θ3 w ++ [r], adC (cp Θ3 w) (len (vv Θ3 w)), x)) :
    GrX ex Θ Θ4 ∧ xo Θ4 w = (3, rs ++ [r], adC c (len rs), x) ∧ ¬ fz Θ4 w ∧ Le Θ3 Θ4 ∧ ∀ b, b ≠ w → xo Θ4 b = xo Θ3 b ∧ (¬ fz Θ3 b → ¬ fz Θ4 b) := sorry
end CMX
def cmD (c : Int) : Int := if c = 40 then 1 else if c = 41 then -1 else 0
/-- the text of a comment, and where it ends -/
def cmT (l : List Int) (k D : Int) : List Int :=
  if h : 0 ≤ k ∧ k < len l ∧ 0 < D then
    if gt l k = 92 then pc1 l (k + 1) ++ cmT l (k + 2) D else (if 0 < D + cmD (gt l k) then [gt l k] else []) ++ cmT l (k + 1) (D + cmD (gt l k))
  else []
termination_by (len l - k).toNat
def cmE (l : List Int) (k D : Int) : Int :=
  if h : 0 ≤ k ∧ k < len l ∧ 0 < D then
    if gt l k = 92 then cmE l (k + 2) D else cmE l (k + 1) (D + cmD (gt l k))
  else k
termination_by (len l - k).toNat
theorem cm_in {l : List Int} : ∀ (N : Nat) (k D : Int), (len l + 1 - k).toNat = N → 0 ≤ k → k ≤ len l + 1 → k ≤ cmE l k D ∧ cmE l k D ≤ len l + 1 ∧ len (cmT l k D) ≤ cmE l k D - k := sorry
theorem u_X27_comment {ω : AO} {d G : Nat} {a s w k c e : Int} {l rs : List Int} {Θ : Th} {Q : Th → Prop} (hd : 9 ≤ d) (h : xo Θ a = (40, [s, w, k], 0, 0)) (hf : ¬ fz Θ a) (hw : xo Θ w = (3, rs, c, e)) (hfw : ¬ fz Θ w) (hs : Str Θ s l) (hk : 0 ≤ k ∧ k < len l) (hl : len l ≤ 1000000)
    (hc : c ≤ adC c (len rs) ∧ adC c (len rs) ≤ 60000000) (hG : 5 * len (cmT l (k + 1) 1) + 28 + (adC c (len rs) - c) ≤ (G : Int))
    (hQ : ∀ r e' Θ', GrX (fun b => b = a ∨ b = w) Θ Θ' → xo Θ' a = (40, [s, w, cmE l (k + 1) 1], 0, 0) → xo Θ' w = (3, rs ++ [r], adC c (len rs), e') → CutO ω Θ' r (13, cmT l (k + 1) 1) → Q Θ') : w2_X27_comment ω d G a Θ Q := sorry
/-! 62.ad.lean.txt -/
/-! the Cutter: all words -/
set_option maxRecDepth 100000
/-- the words of a value from a place on -/
def cuA (l : List Int) (k : Int) : List Wo :=
  if h : 0 ≤ k ∧ k < len l then
    if chNo (gt l k) then cuA l (k + 1)
    else if gt l k = 40 then (13, cmT l (k + 1) 1) :: cuA l (max (k + 1) (cmE l (k + 1) 1))
    else if gt l k = 34 then (10, upT l 34 (k + 1)) :: cuA l (max (k + 1) (upE l 34 (k + 1)) + 1)
    else if gt l k = 91 then (11, upT l 93 (k + 1)) :: cuA l (max (k + 1) (upE l 93 (k + 1)) + 1)
    else if 0 ≤ idx chSg (gt l k) 0 then (12, [gt l k]) :: cuA l (k + 1)
    else (9, sub l k (scn ptB l (k + 1))) :: cuA l (scn ptB l (k + 1))
  else []
termination_by (len l - k).toNat
decreasing_by
  · omega
  · omega
  · omega
  · omega
  · omega
  · have := scn_ge (p := ptB) (l := l) (k := k + 1)
    omega
section CAX
variable {ω : AO} {Θ Θ1 Θ2 : Th} {a s w j c e : Int} {rs : List Int} {ws W : List Wo} {g g0 : Nat} {l : List Int}
/-- what holds while all words are cut -/
def CAI (ω : AO) (Θ Θ1 : Th) (a s w : Int) (l : List Int) (W : List Wo) (j : Int) (g : Nat) : Prop :=
  ∃ rs c e ws g0, GrX (fun b => b = a ∨ b = w) Θ Θ1 ∧ xo Θ1 a = (40, [s, w, j], 0, 0) ∧ xo Θ1 w = (3, rs, c, e) ∧ LI rs c g0 g ∧ (g0 : Int) ≤ 33 * j ∧ len rs ≤ j ∧ all2 (CutO ω Θ1) rs ws ∧ W = ws ++ cuA l j
/-- one more word -/
theorem CAI.more {Θ4 : Th} {r j' x : Int} {wo : Wo} {W : List Wo} {g' : Nat} (hG : GrX (fun b => b = a ∨ b = w) Θ Θ4) (hL : Le Θ1 Θ4) (ha : xo Θ4 a = (40, [s, w, j'], 0, 0)) (hw : xo Θ4 w = (3, rs ++ [r], adC c (len rs), x)) (hI : LI rs c g0 g) (h0 : (g0 : Int) ≤ 33 * j)
    (hlen : len rs ≤ j) (hal : all2 (CutO ω Θ1) rs ws) (hc : CutO ω Θ4 r wo) (hW : W = ws ++ wo :: cuA l j') (k : Nat) (hk : g' = g + k + (adC c (len rs) - c).toNat) (hj : (k : Int) ≤ 33 * (j' - j)) (hj1 : j < j') : CAI ω Θ Θ4 a s w l W j' g' := sorry
end CAX
theorem u_X27_all {ω : AO} {d G : Nat} {a s w e : Int} {l : List Int} {Θ : Th} {Q : Int → Th → Prop} (hd : 10 ≤ d) (h : xo Θ a = (40, [s, w, 0], 0, 0)) (hf : ¬ fz Θ a) (hw : xo Θ w = (3, [], 0, e)) (hfw : ¬ fz Θ w) (hs : Str Θ s l) (hl : len l ≤ 100000)
    (hG : 35 * len l + 90 ≤ (G : Int)) (hQ : ∀ Θ' rs c e', GrX (fun b => b = a ∨ b = w) Θ Θ' → xo Θ' w = (3, rs, c, e') → all2 (CutO ω Θ') rs (cuA l 0) → Q w Θ') : w2_X27_all ω d G a Θ Q := sorry
/-! 62.ba.lean.txt -/
/-! segments -/
set_option maxRecDepth 100000
def w2_X39_init (ω : AO) (d G : Nat) (l0 l1 : Int) (Θ : Th) (Q : Th → Prop) : Prop := Hid (∀ S, bel S → R2 ω S Θ → Ctr ω yX39_init cX39_init 2 none d G [(2, l0), (2, l1)] S (eU S (q2U ω Θ Q)))
def w2_X39_two (ω : AO) (d G : Nat) (l0 l1 : Int) (Θ : Th) (Q : Int → Th → Prop) : Prop := Hid (∀ S, bel S → R2 ω S Θ → Ctr ω yX39_two cX39_two 2 (some .int) d G [(2, l0), (0, l1)] S (eI S (q2 ω Θ Q)))
def w2_X39_year (ω : AO) (d G : Nat) (l0 : Int) (Θ : Th) (Q : Int → Th → Prop) : Prop := Hid (∀ S, bel S → R2 ω S Θ → Ctr ω yX39_year cX39_year 2 (some .int) d G [(2, l0)] S (eI S (q2 ω Θ Q)))
def w2_X39_month (ω : AO) (d G : Nat) (l0 : Int) (Θ : Th) (Q : Int → Th → Prop) : Prop := Hid (∀ S, bel S → R2 ω S Θ → Ctr ω yX39_month cX39_month 2 (some .int) d G [(2, l0)] S (eI S (q2 ω Θ Q)))
def w2_X39_days (ω : AO) (d G : Nat) (l0 l1 l2 : Int) (Θ : Th) (Q : Int → Th → Prop) : Prop := Hid (∀ S, bel S → R2 ω S Θ → Ctr ω yX39_days cX39_days 6 (some .int) d G [(0, l0), (0, l1), (0, l2)] S (eI S (q2 ω Θ Q)))
def w2_X39_go (ω : AO) (d G : Nat) (l0 : Int) (Θ : Th) (Q : Th → Prop) : Prop := Hid (∀ S, bel S → R2 ω S Θ → Ctr ω yX39_go cX39_go 1 none d G [(2, l0)] S (eU S (q2U ω Θ Q)))
def w2_X39_isSign (ω : AO) (d G : Nat) (l0 l1 : Int) (Θ : Th) (Q : Int → Th → Prop) : Prop := Hid (∀ S, bel S → R2 ω S Θ → Ctr ω yX39_isSign cX39_isSign 2 (some .boolean) d G [(2, l0), (0, l1)] S (eZ S (q2 ω Θ Q)))
def w2_X39_atom (ω : AO) (d G : Nat) (l0 : Int) (Θ : Th) (Q : Int → Th → Prop) : Prop := Hid (∀ S, bel S → R2 ω S Θ → Ctr ω yX39_atom cX39_atom 2 (some (.object "java/lang/String")) d G [(2, l0)] S (eA S (q2 ω Θ Q)))
def w2_X39_zone (ω : AO) (d G : Nat) (l0 : Int) (Θ : Th) (Q : Int → Th → Prop) : Prop := Hid (∀ S, bel S → R2 ω S Θ → Ctr ω yX39_zone cX39_zone 3 (some .int) d G [(2, l0)] S (eI S (q2 ω Θ Q)))
def w2_X39_read (ω : AO) (d G : Nat) (l0 : Int) (Θ : Th) (Q : Int → Th → Prop) : Prop := Hid (∀ S, bel S → R2 ω S Θ → Ctr ω yX39_read cX39_read 8 (some .long) d G [(2, l0)] S (eL S (q2 ω Θ Q)))
theorem lf_X39_9_47 : FLk RX39 9 47 0 (.object "java/util/ArrayList") true := sorry
theorem lm_X39_15 : VLk RX39 15 47 yX39_go cX39_go 1 none 0 := sorry
theorem lm_X39_52 : VLk RX39 52 2 yJ2_length cJ2_length 1 (some .int) 0 := sorry
theorem lm_X39_57 : SLk RX39 57 yX12_areDigits cX12_areDigits 3 (some .boolean) 1 := sorry
theorem lm_X39_63 : SLk RX39 63 yX12_number cX12_number 3 (some .int) 1 := sorry
theorem lm_X39_69 : VLk RX39 69 2 yJ2_substring cJ2_substring 5 (some (.object "java/lang/String")) 2 := sorry
theorem lm_X39_73 : SLk RX39 73 yX12_small cX12_small 3 (some (.object "java/lang/String")) 1 := sorry
theorem lm_X39_77 : VLk RX39 77 2 yJ2_indexOf cJ2_indexOf 3 (some .int) 1 := sorry
theorem lm_X39_118 : SLk RX39 118 yX39_length cX39_length 2 (some .int) 2 := sorry
theorem lr_X39_18_47 : FLkR RX39 18 47 2 .int := sorry
theorem lr_X39_9_47 : FLkR RX39 9 47 0 (.object "java/util/ArrayList") := sorry
theorem lm_X39_22 : VLk RX39 22 3 yJ7_size cJ7_size 1 (some .int) 0 := sorry
theorem lm_X39_28 : VLk RX39 28 3 yJ7_get cJ7_get 2 (some (.object "java/lang/Object")) 1 := sorry
theorem lf_X39_34_47 : FLk RX39 34 47 1 (.object "MailWorks$Cut") false := sorry
theorem lf_X39_18_47 : FLk RX39 18 47 2 .int false := sorry
theorem lr_X39_34_47 : FLkR RX39 34 47 1 (.object "MailWorks$Cut") := sorry
theorem lm_X39_38 : VLk RX39 38 41 yX28_is cX28_is 2 (some .boolean) 1 := sorry
theorem lm_X39_42 : VLk RX39 42 41 yX28_isAtom cX28_isAtom 1 (some .boolean) 0 := sorry
theorem lr_X39_48_41 : FLkR RX39 48 41 1 (.object "java/lang/String") := sorry
theorem lm_X39_80 : VLk RX39 80 2 yJ2_charAt cJ2_charAt 2 (some .char) 1 := sorry
theorem lm_X39_91 : VLk RX39 91 2 yJ2_hashCode cJ2_hashCode 2 (some .int) 0 := sorry
theorem lm_X39_96 : VLk RX39 96 2 yJ2_equals cJ2_equals 3 (some .boolean) 1 := sorry
theorem lm_X39_84 : SLk RX39 84 yX39_two cX39_two 2 (some .int) 2 := sorry
theorem lm_X39_88 : VLk RX39 88 2 yJ2_substring_2 cJ2_substring_2 2 (some (.object "java/lang/String")) 1 := sorry
theorem lm_X39_121 : VLk RX39 121 47 yX39_atom cX39_atom 2 (some (.object "java/lang/String")) 0 := sorry
theorem lm_X39_125 : VLk RX39 125 2 yJ2_isEmpty cJ2_isEmpty 1 (some .boolean) 0 := sorry
theorem lm_X39_128 : VLk RX39 128 47 yX39_isSign cX39_isSign 2 (some .boolean) 1 := sorry
theorem lm_X39_131 : SLk RX39 131 yX39_month cX39_month 2 (some .int) 1 := sorry
theorem lm_X39_134 : SLk RX39 134 yX39_year cX39_year 2 (some .int) 1 := sorry
theorem lm_X39_143 : SLk RX39 143 yX39_days cX39_days 6 (some .int) 3 := sorry
theorem lm_X39_147 : SLk RX39 147 yX39_zone cX39_zone 3 (some .int) 1 := sorry
set_option maxHeartbeats 4000000 in
theorem s2_X39_init {ω : AO} {d G : Nat} {l0 l1 : Int} {Θ : Th} {Q : Th → Prop} (hB : (1 ≤ d) ∧ (0 ≤ l0) ∧ (kd Θ l0 = 47) ∧ (¬ fz Θ l0) ∧ (-1 ≤ l1) ∧ ∀ (Θ6 : Th) (t6 : Θ6 = pf Θ l0 0 l1), ∃ G10 : Nat, (0 + G10 ≤ G) ∧ w2_X39_go ω (d - 1) G10 l0 Θ6 (fun Θ10 => ∀ (L10 : Le Θ6 Θ10), (0 + G10 ≤ G) ∧ Q Θ10)) : w2_X39_init ω d G l0 l1 Θ Q := sorry
set_option maxHeartbeats 4000000 in
theorem s2_X39_two {ω : AO} {d G : Nat} {l0 l1 : Int} {Θ : Th} {Q : Int → Th → Prop} (hB : (1 ≤ d) ∧ (kd Θ l0 = 2) ∧ (2 ≤ d) ∧ ∀ (x1 : Int) (e1 : x1 = len (vv Θ l0)) (r1 : -2147483648 ≤ x1 ∧ x1 < 2147483648), (∀ (c5 : ¬ x1 = 2), Q (-1) Θ) ∧ (∀ (c5 : x1 = 2), (6 ≤ d) ∧ ∀ (x9 : Int) (e9 : x9 = if digB (vv Θ l0) then 1 else 0) (r9 : x9 = 0 ∨ x9 = 1), (∀ (c12 : x9 = 0), Q (-1) Θ) ∧ (∀ (c12 : ¬ x9 = 0), ((vv Θ l0).all dgB = true) ∧ ∀ (x16 : Int) (e16 : x16 = nmB (vv Θ l0)) (r16 : -2147483648 ≤ x16 ∧ x16 < 2147483648), (-2147483648 ≤ l1 ∧ l1 < 2147483648) ∧ (∀ (c20 : l1 ≤ x16), Q (-1) Θ) ∧ (∀ (c20 : x16 < l1), ∀ (x24 : Int) (e24 : x24 = nmB (vv Θ l0)) (r24 : -2147483648 ≤ x24 ∧ x24 < 2147483648), Q x24 Θ)))) : w2_X39_two ω d G l0 l1 Θ Q := sorry
set_option maxHeartbeats 4000000 in
theorem s2_X39_year {ω : AO} {d G : Nat} {l0 : Int} {Θ : Th} {Q : Int → Th → Prop} (hB : (1 ≤ d) ∧ (kd Θ l0 = 2) ∧ (6 ≤ d) ∧ ∀ (x1 : Int) (e1 : x1 = if digB (vv Θ l0) then 1 else 0) (r1 : x1 = 0 ∨ x1 = 1), (∀ (c4 : x1 = 0), Q (-1) Θ) ∧ (∀ (c4 : ¬ x1 = 0), (2 ≤ d) ∧ ∀ (x8 : Int) (e8 : x8 = len (vv Θ l0)) (r8 : -2147483648 ≤ x8 ∧ x8 < 2147483648), (∀ (c13 : x8 ≤ 9), ((vv Θ l0).all dgB = true) ∧ ∀ (x19 : Int) (e19 : x19 = nmB (vv Θ l0)) (r19 : -2147483648 ≤ x19 ∧ x19 < 2147483648), ∀ (x24 : Int) (e24 : x24 = len (vv Θ l0)) (r24 : -2147483648 ≤ x24 ∧ x24 < 2147483648), (∀ (c28 : ¬ x24 = 2), ∀ (x54 : Int) (e54 : x54 = len (vv Θ l0)) (r54 : -2147483648 ≤ x54 ∧ x54 < 2147483648), (∀ (c58 : ¬ x54 = 3), ∀ (x70 : Int) (e70 : x70 = len (vv Θ l0)) (r70 : -2147483648 ≤ x70 ∧ x70 < 2147483648), (∀ (c74 : x70 ≤ 3), Q (-1) Θ) ∧ (∀ (c74 : 3 < x70), Q x19 Θ)) ∧ (∀ (c58 : x54 = 3), (-2147483648 ≤ (1900 + x19) ∧ (1900 + x19) < 2147483648) ∧ Q (1900 + x19) Θ)) ∧ (∀ (c28 : x24 = 2), (∀ (c34 : 50 ≤ x19), (-2147483648 ≤ (1900 + x19) ∧ (1900 + x19) < 2147483648) ∧ Q (1900 + x19) Θ) ∧ (∀ (c34 : x19 < 50), (-2147483648 ≤ (2000 + x19) ∧ (2000 + x19) < 2147483648) ∧ Q (2000 + x19) Θ))) ∧ (∀ (c13 : 9 < x8), Q (-1) Θ))) : w2_X39_year ω d G l0 Θ Q := sorry
def W2_X39_month_26 (ω : AO) (d G : Nat) (s0 : Int) (g : Nat) (Θ : Th) (Q : Int → Th → Prop) : Prop := Hid (SJ2 ω yX39_month cX39_month 2 (some .int) d G (fun Sz Θz => (eI Sz (q2 ω Θz Q))) 26 [vN, vN] [(0, s0)] g Θ)
set_option maxHeartbeats 4000000 in
theorem s2_X39_month {ω : AO} {d G : Nat} {l0 : Int} {Θ : Th} {Q : Int → Th → Prop} (hB : (1 ≤ d) ∧ (kd Θ l0 = 2) ∧ (2 ≤ d) ∧ ∀ (x1 : Int) (e1 : x1 = len (vv Θ l0)) (r1 : -2147483648 ≤ x1 ∧ x1 < 2147483648), (∀ (c5 : 3 ≤ x1), ∀ (v12 : Int) (h12 : Str Θ v12 [106, 97, 110, 102, 101, 98, 109, 97, 114, 97, 112, 114, 109, 97, 121, 106, 117, 110, 106, 117, 108, 97, 117, 103, 115, 101, 112, 111, 99, 116, 110, 111, 118, 100, 101, 99]), (0 ≤ (0 : Int) ∧ (0 : Int) ≤ (3 : Int) ∧ (3 : Int) ≤ len (vv Θ l0)) ∧ ((0 : Int) < (3 : Int) ∨ wide (vv Θ l0) = 0 ∨ vv Θ l0 = []) ∧ (7 ≤ d) ∧ (0 + ((3 : Int) - (0 : Int) + 5).toNat ≤ G) ∧ ∀ (x17 : Int) (Θ17 : Th) (e17 : NewS Θ Θ17 x17 (sub (vv Θ l0) (0 : Int) (3 : Int))), (len (vv Θ17 x17) ≤ 1000000) ∧ (10 ≤ d) ∧ (0 + ((3 : Int) - (0 : Int) + 5).toNat + (5 * len (vv Θ17 x17) + 30).toNat ≤ G) ∧ ∀ (x20 : Int) (Θ20 : Th) (e20 : NewS Θ17 Θ20 x20 ((vv Θ17 x17).map lowB)), ∃ G23 : Nat, (0 + ((3 : Int) - (0 : Int) + 5).toNat + (5 * len (vv Θ17 x17) + 30).toNat + G23 ≤ G) ∧ w2_J2_indexOf ω (d - 1) G23 v12 x20 Θ20 (fun x23 Θ23 => ∀ (L23 : Le Θ20 Θ23) (r23 : -2147483648 ≤ x23 ∧ x23 < 2147483648), W2_X39_month_26 ω d G x23 (0 + ((3 : Int) - (0 : Int) + 5).toNat + (5 * len (vv Θ17 x17) + 30).toNat + G23) Θ23 Q)) ∧ (∀ (c5 : x1 < 3), W2_X39_month_26 ω d G ((-1)) (0) Θ Q)) : w2_X39_month ω d G l0 Θ Q := sorry
set_option maxHeartbeats 4000000 in
theorem s2_X39_month_26 {ω : AO} {d G : Nat} {s0 : Int} {g : Nat} {Θ : Th} {Q : Int → Th → Prop} (hB : (-2147483648 ≤ s0 ∧ s0 < 2147483648) ∧ (∀ (c28 : s0 < 0), (g ≤ G) ∧ Q (-1) Θ) ∧ (∀ (c28 : 0 ≤ s0), (∀ (c34 : ¬ (Int.tmod s0 3) = 0), (g ≤ G) ∧ Q (-1) Θ) ∧ (∀ (c34 : (Int.tmod s0 3) = 0), (g ≤ G) ∧ (-2147483648 ≤ ((Int.tdiv s0 3) + 1) ∧ ((Int.tdiv s0 3) + 1) < 2147483648) ∧ Q ((Int.tdiv s0 3) + 1) Θ))) : W2_X39_month_26 ω d G s0 g Θ Q := sorry
def W2_X39_days_37 (ω : AO) (d G : Nat) (l0 l1 l2 l4 l5 : Int) (g : Nat) (Θ : Th) (Q : Int → Th → Prop) : Prop := Hid (SJ2 ω yX39_days cX39_days 6 (some .int) d G (fun Sz Θz => (eI Sz (q2 ω Θz Q))) 37 [(0, l0), (0, l1), (0, l2), vN, (0, l4), (0, l5)] [] g Θ)
set_option maxHeartbeats 4000000 in
theorem s2_X39_days {ω : AO} {d G : Nat} {l0 l1 l2 : Int} {Θ : Th} {Q : Int → Th → Prop} (hB : (-2147483648 ≤ (l0 - 1) ∧ (l0 - 1) < 2147483648) ∧ W2_X39_days_37 ω d G l0 l1 l2 ((((((365 * (l0 - 1970)) + (Int.tdiv (l0 - 1) 4)) - (Int.tdiv (l0 - 1) 100)) + (Int.tdiv (l0 - 1) 400)) - 477)) 1 (0) Θ Q) : w2_X39_days ω d G l0 l1 l2 Θ Q := sorry
set_option maxHeartbeats 4000000 in
theorem s2_X39_days_37 {ω : AO} {d G : Nat} {l0 l1 l2 l4 l5 : Int} {g : Nat} {Θ : Th} {Q : Int → Th → Prop} (hB : (-2147483648 ≤ l5 ∧ l5 < 2147483648) ∧ (-2147483648 ≤ l1 ∧ l1 < 2147483648) ∧ (∀ (c40 : l1 ≤ l5), (g ≤ G) ∧ (-2147483648 ≤ ((l4 + l2) - 1) ∧ ((l4 + l2) - 1) < 2147483648) ∧ Q ((l4 + l2) - 1) Θ) ∧ (∀ (c40 : l5 < l1), (1 ≤ d) ∧ (-2147483648 ≤ l0 ∧ l0 < 2147483648) ∧ (2 ≤ d) ∧ (g ≤ G) ∧ ∀ (x48 : Int) (e48 : x48 = mdF l0 l5) (r48 : -2147483648 ≤ x48 ∧ x48 < 2147483648), W2_X39_days_37 ω d G l0 l1 l2 ((l4 + x48)) ((l5 + 1)) (g) Θ Q)) : W2_X39_days_37 ω d G l0 l1 l2 l4 l5 g Θ Q := sorry
def W2_X39_go_33 (ω : AO) (d G : Nat) (l0 s0 s1 : Int) (g : Nat) (Θ : Th) (Q : Th → Prop) : Prop := Hid (SJ2 ω yX39_go cX39_go 1 none d G (fun Sz Θz => (eU Sz (q2U ω Θz Q))) 33 [(2, l0)] [(2, s0), (2, s1)] g Θ)
set_option maxHeartbeats 4000000 in
theorem s2_X39_go {ω : AO} {d G : Nat} {l0 : Int} {Θ : Th} {Q : Th → Prop} (hB : (kd Θ l0 = 47) ∧ ∀ (v2 : Int) (e2 : v2 = gt (vv Θ l0) 2) (r2 : -2147483648 ≤ v2 ∧ v2 < 2147483648), ∀ (v6 : Int) (e6 : v6 = gt (vv Θ l0) 0) (r6 : -1 ≤ v6), (1 ≤ d) ∧ (kd Θ v6 = 3) ∧ ∀ (x9 : Int) (e9 : x9 = len (vv Θ v6)) (r9 : -2147483648 ≤ x9 ∧ x9 < 2147483648), (∀ (c12 : x9 ≤ v2), W2_X39_go_33 ω d G l0 ((-1)) l0 (0) Θ Q) ∧ (∀ (c12 : v2 < x9), ∀ (v16 : Int) (e16 : v16 = gt (vv Θ l0) 0) (r16 : -1 ≤ v16), ∀ (v20 : Int) (e20 : v20 = gt (vv Θ l0) 2) (r20 : -2147483648 ≤ v20 ∧ v20 < 2147483648), (kd Θ v16 = 3) ∧ (0 ≤ v20 ∧ v20 < len (vv Θ v16)) ∧ (3 ≤ d) ∧ ∀ (x23 : Int) (e23 : x23 = gt (vv Θ v16) v20) (r23 : -1 ≤ x23), (x23 < 0 ∨ kd Θ x23 ∈ [41]) ∧ W2_X39_go_33 ω d G l0 x23 l0 (0) Θ Q)) : w2_X39_go ω d G l0 Θ Q := sorry
set_option maxHeartbeats 4000000 in
theorem s2_X39_go_33 {ω : AO} {d G : Nat} {l0 s0 s1 : Int} {g : Nat} {Θ : Th} {Q : Th → Prop} (hB : (kd Θ s1 = 47) ∧ (¬ fz Θ s1) ∧ (-1 ≤ s0) ∧ ∀ (Θ33 : Th) (t33 : Θ33 = pf Θ s1 1 s0), (kd Θ33 l0 = 47) ∧ ∀ (v38 : Int) (e38 : v38 = gt (vv Θ33 l0) 2) (r38 : -2147483648 ≤ v38 ∧ v38 < 2147483648), (¬ fz Θ33 l0) ∧ (-2147483648 ≤ (v38 + 1) ∧ (v38 + 1) < 2147483648) ∧ ∀ (Θ43 : Th) (t43 : Θ43 = pf Θ33 l0 2 (v38 + 1)), (g ≤ G) ∧ Q Θ43) : W2_X39_go_33 ω d G l0 s0 s1 g Θ Q := sorry
set_option maxHeartbeats 4000000 in
theorem s2_X39_isSign {ω : AO} {d G : Nat} {l0 l1 : Int} {Θ : Th} {Q : Int → Th → Prop} (hB : (kd Θ l0 = 47) ∧ ∀ (v1 : Int) (e1 : v1 = gt (vv Θ l0) 1) (r1 : -1 ≤ v1), (∀ (c4 : v1 < 0), Q 0 Θ) ∧ (∀ (c4 : 0 ≤ v1), ∀ (v8 : Int) (e8 : v8 = gt (vv Θ l0) 1) (r8 : -1 ≤ v8), (1 ≤ d) ∧ (kd Θ v8 = 41) ∧ ∃ G12 : Nat, (0 + G12 ≤ G) ∧ w2_X28_is ω (d - 1) G12 v8 l1 Θ (fun x12 Θ12 => ∀ (L12 : Le Θ Θ12) (r12 : x12 = 0 ∨ x12 = 1), (∀ (c15 : x12 = 0), (0 + G12 ≤ G) ∧ Q 0 Θ12) ∧ (∀ (c15 : ¬ x12 = 0), (0 + G12 ≤ G) ∧ Q 1 Θ12)))) : w2_X39_isSign ω d G l0 l1 Θ Q := sorry
set_option maxHeartbeats 4000000 in
theorem s2_X39_atom {ω : AO} {d G : Nat} {l0 : Int} {Θ : Th} {Q : Int → Th → Prop} (hB : (kd Θ l0 = 47) ∧ ∀ (v1 : Int) (e1 : v1 = gt (vv Θ l0) 1) (r1 : -1 ≤ v1), (∀ (c4 : v1 < 0), ∀ (v17 : Int) (h17 : Str Θ v17 []), (-1 ≤ v17) ∧ Q v17 Θ) ∧ (∀ (c4 : 0 ≤ v1), ∀ (v8 : Int) (e8 : v8 = gt (vv Θ l0) 1) (r8 : -1 ≤ v8), (1 ≤ d) ∧ (kd Θ v8 = 41) ∧ ∃ G11 : Nat, (0 + G11 ≤ G) ∧ w2_X28_isAtom ω (d - 1) G11 v8 Θ (fun x11 Θ11 => ∀ (L11 : Le Θ Θ11) (r11 : x11 = 0 ∨ x11 = 1), (∀ (c14 : ¬ x11 = 0), ∀ (v21 : Int) (e21 : v21 = gt (vv Θ11 l0) 1) (r21 : -1 ≤ v21), (kd Θ11 v21 = 41) ∧ ∀ (v24 : Int) (e24 : v24 = gt (vv Θ11 v21) 1) (r24 : -1 ≤ v24), ∃ G29 : Nat, (0 + G11 + G29 ≤ G) ∧ w2_X39_go ω (d - 1) G29 l0 Θ11 (fun Θ29 => ∀ (L29 : Le Θ11 Θ29), (0 + G11 + G29 ≤ G) ∧ Q v24 Θ29)) ∧ (∀ (c14 : x11 = 0), ∀ (v17 : Int) (h17 : Str Θ11 v17 []), (0 + G11 ≤ G) ∧ (-1 ≤ v17) ∧ Q v17 Θ11)))) : w2_X39_atom ω d G l0 Θ Q := sorry
def W2_X39_zone_89 (ω : AO) (d G : Nat) (l0 : Int) (g : Nat) (Θ : Th) (Q : Int → Th → Prop) : Prop := Hid (SJ2 ω yX39_zone cX39_zone 3 (some .int) d G (fun Sz Θz => (eI Sz (q2 ω Θz Q))) 89 [(2, l0), vN, vN] [] g Θ)
def W2_X39_zone_28 (ω : AO) (d G : Nat) (l0 : Int) (g : Nat) (Θ : Th) (Q : Int → Th → Prop) : Prop := Hid (SJ2 ω yX39_zone cX39_zone 3 (some .int) d G (fun Sz Θz => (eI Sz (q2 ω Θz Q))) 28 [(2, l0), vN, vN] [] g Θ)
def W2_X39_zone_287 (ω : AO) (d G : Nat) (l2 : Int) (g : Nat) (Θ : Th) (Q : Int → Th → Prop) : Prop := Hid (SJ2 ω yX39_zone cX39_zone 3 (some .int) d G (fun Sz Θz => (eI Sz (q2 ω Θz Q))) 287 [vN, vN, (0, l2)] [] g Θ)
set_option maxHeartbeats 4000000 in
theorem s2_X39_zone {ω : AO} {d G : Nat} {l0 : Int} {Θ : Th} {Q : Int → Th → Prop} (hB : (1 ≤ d) ∧ (kd Θ l0 = 2) ∧ (2 ≤ d) ∧ ∀ (x1 : Int) (e1 : x1 = len (vv Θ l0)) (r1 : -2147483648 ≤ x1 ∧ x1 < 2147483648), (∀ (c5 : ¬ x1 = 5), W2_X39_zone_89 ω d G l0 (0) Θ Q) ∧ (∀ (c5 : x1 = 5), (0 ≤ (0 : Int) ∧ (0 : Int) < len (vv Θ l0)) ∧ (5 ≤ d) ∧ ∀ (x10 : Int) (e10 : x10 = gt (vv Θ l0) (0 : Int)) (r10 : 0 ≤ x10 ∧ x10 < 65536), (∀ (c15 : x10 = 43), W2_X39_zone_28 ω d G l0 (0) Θ Q) ∧ (∀ (c15 : ¬ x10 = 43), ∀ (x20 : Int) (e20 : x20 = gt (vv Θ l0) (0 : Int)) (r20 : 0 ≤ x20 ∧ x20 < 65536), (∀ (c25 : ¬ x20 = 45), W2_X39_zone_89 ω d G l0 (0) Θ Q) ∧ (∀ (c25 : x20 = 45), W2_X39_zone_28 ω d G l0 (0) Θ Q)))) : w2_X39_zone ω d G l0 Θ Q := sorry
set_option maxHeartbeats 4000000 in
theorem s2_X39_zone_89 {ω : AO} {d G : Nat} {l0 : Int} {g : Nat} {Θ : Th} {Q : Int → Th → Prop} (hB : (1 ≤ d) ∧ (kd Θ l0 = 2) ∧ (len (vv Θ l0) ≤ 1000000) ∧ (10 ≤ d) ∧ (g + (5 * len (vv Θ l0) + 30).toNat ≤ G) ∧ ∀ (x90 : Int) (Θ90 : Th) (e90 : NewS Θ Θ90 x90 ((vv Θ l0).map lowB)), ∃ G97 : Nat, (g + (5 * len (vv Θ l0) + 30).toNat + G97 ≤ G) ∧ w2_J2_hashCode ω (d - 1) G97 x90 Θ90 (fun x97 Θ97 => ∀ (L97 : Le Θ90 Θ97) (r97 : -2147483648 ≤ x97 ∧ x97 < 2147483648), (∀ (c100 : x97 ≠ 98355 ∧ x97 ≠ 98820 ∧ x97 ≠ 100277 ∧ x97 ≠ 100742 ∧ x97 ≠ 107965 ∧ x97 ≠ 108430 ∧ x97 ≠ 110848 ∧ x97 ≠ 111313), W2_X39_zone_287 ω d G ((-1)) (g + (5 * len (vv Θ l0) + 30).toNat + G97) Θ97 Q) ∧ (∀ (c100 : x97 = 98355), ∀ (v205 : Int) (h205 : Str Θ97 v205 [99, 100, 116]), (2 ≤ d) ∧ (g + (5 * len (vv Θ l0) + 30).toNat + G97 ≤ G) ∧ ∀ (x207 : Int) (e207 : x207 = if vv Θ97 x90 = vv Θ97 v205 then 1 else 0) (r207 : x207 = 0 ∨ x207 = 1), (∀ (c210 : x207 = 0), W2_X39_zone_287 ω d G ((-1)) (g + (5 * len (vv Θ l0) + 30).toNat + G97) Θ97 Q) ∧ (∀ (c210 : ¬ x207 = 0), W2_X39_zone_287 ω d G 2 (g + (5 * len (vv Θ l0) + 30).toNat + G97) Θ97 Q)) ∧ (∀ (c100 : x97 = 98820), ∀ (v219 : Int) (h219 : Str Θ97 v219 [99, 115, 116]), (2 ≤ d) ∧ (g + (5 * len (vv Θ l0) + 30).toNat + G97 ≤ G) ∧ ∀ (x221 : Int) (e221 : x221 = if vv Θ97 x90 = vv Θ97 v219 then 1 else 0) (r221 : x221 = 0 ∨ x221 = 1), (∀ (c224 : x221 = 0), W2_X39_zone_287 ω d G ((-1)) (g + (5 * len (vv Θ l0) + 30).toNat + G97) Θ97 Q) ∧ (∀ (c224 : ¬ x221 = 0), W2_X39_zone_287 ω d G 3 (g + (5 * len (vv Θ l0) + 30).toNat + G97) Θ97 Q)) ∧ (∀ (c100 : x97 = 100277), ∀ (v177 : Int) (h177 : Str Θ97 v177 [101, 100, 116]), (2 ≤ d) ∧ (g + (5 * len (vv Θ l0) + 30).toNat + G97 ≤ G) ∧ ∀ (x179 : Int) (e179 : x179 = if vv Θ97 x90 = vv Θ97 v177 then 1 else 0) (r179 : x179 = 0 ∨ x179 = 1), (∀ (c182 : x179 = 0), W2_X39_zone_287 ω d G ((-1)) (g + (5 * len (vv Θ l0) + 30).toNat + G97) Θ97 Q) ∧ (∀ (c182 : ¬ x179 = 0), W2_X39_zone_287 ω d G 0 (g + (5 * len (vv Θ l0) + 30).toNat + G97) Θ97 Q)) ∧ (∀ (c100 : x97 = 100742), ∀ (v191 : Int) (h191 : Str Θ97 v191 [101, 115, 116]), (2 ≤ d) ∧ (g + (5 * len (vv Θ l0) + 30).toNat + G97 ≤ G) ∧ ∀ (x193 : Int) (e193 : x193 = if vv Θ97 x90 = vv Θ97 v191 then 1 else 0) (r193 : x193 = 0 ∨ x193 = 1), (∀ (c196 : x193 = 0), W2_X39_zone_287 ω d G ((-1)) (g + (5 * len (vv Θ l0) + 30).toNat + G97) Θ97 Q) ∧ (∀ (c196 : ¬ x193 = 0), W2_X39_zone_287 ω d G 1 (g + (5 * len (vv Θ l0) + 30).toNat + G97) Θ97 Q)) ∧ (∀ (c100 : x97 = 107965), ∀ (v233 : Int) (h233 : Str Θ97 v233 [109, 100, 116]), (2 ≤ d) ∧ (g + (5 * len (vv Θ l0) + 30).toNat + G97 ≤ G) ∧ ∀ (x235 : Int) (e235 : x235 = if vv Θ97 x90 = vv Θ97 v233 then 1 else 0) (r235 : x235 = 0 ∨ x235 = 1), (∀ (c238 : x235 = 0), W2_X39_zone_287 ω d G ((-1)) (g + (5 * len (vv Θ l0) + 30).toNat + G97) Θ97 Q) ∧ (∀ (c238 : ¬ x235 = 0), W2_X39_zone_287 ω d G 4 (g + (5 * len (vv Θ l0) + 30).toNat + G97) Θ97 Q)) ∧ (∀ (c100 : x97 = 108430), ∀ (v247 : Int) (h247 : Str Θ97 v247 [109, 115, 116]), (2 ≤ d) ∧ (g + (5 * len (vv Θ l0) + 30).toNat + G97 ≤ G) ∧ ∀ (x249 : Int) (e249 : x249 = if vv Θ97 x90 = vv Θ97 v247 then 1 else 0) (r249 : x249 = 0 ∨ x249 = 1), (∀ (c252 : x249 = 0), W2_X39_zone_287 ω d G ((-1)) (g + (5 * len (vv Θ l0) + 30).toNat + G97) Θ97 Q) ∧ (∀ (c252 : ¬ x249 = 0), W2_X39_zone_287 ω d G 5 (g + (5 * len (vv Θ l0) + 30).toNat + G97) Θ97 Q)) ∧ (∀ (c100 : x97 = 110848), ∀ (v261 : Int) (h261 : Str Θ97 v261 [112, 100, 116]), (2 ≤ d) ∧ (g + (5 * len (vv Θ l0) + 30).toNat + G97 ≤ G) ∧ ∀ (x263 : Int) (e263 : x263 = if vv Θ97 x90 = vv Θ97 v261 then 1 else 0) (r263 : x263 = 0 ∨ x263 = 1), (∀ (c266 : x263 = 0), W2_X39_zone_287 ω d G ((-1)) (g + (5 * len (vv Θ l0) + 30).toNat + G97) Θ97 Q) ∧ (∀ (c266 : ¬ x263 = 0), W2_X39_zone_287 ω d G 6 (g + (5 * len (vv Θ l0) + 30).toNat + G97) Θ97 Q)) ∧ (∀ (c100 : x97 = 111313), ∀ (v276 : Int) (h276 : Str Θ97 v276 [112, 115, 116]), (2 ≤ d) ∧ (g + (5 * len (vv Θ l0) + 30).toNat + G97 ≤ G) ∧ ∀ (x278 : Int) (e278 : x278 = if vv Θ97 x90 = vv Θ97 v276 then 1 else 0) (r278 : x278 = 0 ∨ x278 = 1), (∀ (c281 : x278 = 0), W2_X39_zone_287 ω d G ((-1)) (g + (5 * len (vv Θ l0) + 30).toNat + G97) Θ97 Q) ∧ (∀ (c281 : ¬ x278 = 0), W2_X39_zone_287 ω d G 7 (g + (5 * len (vv Θ l0) + 30).toNat + G97) Θ97 Q)))) : W2_X39_zone_89 ω d G l0 g Θ Q := sorry
set_option maxHeartbeats 4000000 in
theorem s2_X39_zone_28 {ω : AO} {d G : Nat} {l0 : Int} {g : Nat} {Θ : Th} {Q : Int → Th → Prop} (hB : (1 ≤ d) ∧ (kd Θ l0 = 2) ∧ (0 ≤ (1 : Int) ∧ (1 : Int) ≤ (3 : Int) ∧ (3 : Int) ≤ len (vv Θ l0)) ∧ ((1 : Int) < (3 : Int) ∨ wide (vv Θ l0) = 0 ∨ vv Θ l0 = []) ∧ (7 ≤ d) ∧ (g + ((3 : Int) - (1 : Int) + 5).toNat ≤ G) ∧ ∀ (x31 : Int) (Θ31 : Th) (e31 : NewS Θ Θ31 x31 (sub (vv Θ l0) (1 : Int) (3 : Int))), ∃ G36 : Nat, (g + ((3 : Int) - (1 : Int) + 5).toNat + G36 ≤ G) ∧ w2_X39_two ω (d - 1) G36 x31 24 Θ31 (fun x36 Θ36 => ∀ (L36 : Le Θ31 Θ36) (r36 : -2147483648 ≤ x36 ∧ x36 < 2147483648), (0 ≤ (3 : Int) ∧ (3 : Int) ≤ len (vv Θ36 l0)) ∧ ((3 : Int) < len (vv Θ36 l0) ∨ wide (vv Θ36 l0) = 0 ∨ vv Θ36 l0 = []) ∧ (8 ≤ d) ∧ (g + ((3 : Int) - (1 : Int) + 5).toNat + G36 + (len (vv Θ36 l0) - (3 : Int) + 5).toNat ≤ G) ∧ ∀ (x42 : Int) (Θ42 : Th) (e42 : NewS Θ36 Θ42 x42 (sub (vv Θ36 l0) (3 : Int) (len (vv Θ36 l0)))), ∃ G47 : Nat, (g + ((3 : Int) - (1 : Int) + 5).toNat + G36 + (len (vv Θ36 l0) - (3 : Int) + 5).toNat + G47 ≤ G) ∧ w2_X39_two ω (d - 1) G47 x42 60 Θ42 (fun x47 Θ47 => ∀ (L47 : Le Θ42 Θ47) (r47 : -2147483648 ≤ x47 ∧ x47 < 2147483648), (∀ (c52 : x36 < 0), (g + ((3 : Int) - (1 : Int) + 5).toNat + G36 + (len (vv Θ36 l0) - (3 : Int) + 5).toNat + G47 ≤ G) ∧ Q 0 Θ47) ∧ (∀ (c52 : 0 ≤ x36), (∀ (c56 : 0 ≤ x47), (0 ≤ (0 : Int) ∧ (0 : Int) < len (vv Θ47 l0)) ∧ (5 ≤ d) ∧ (g + ((3 : Int) - (1 : Int) + 5).toNat + G36 + (len (vv Θ36 l0) - (3 : Int) + 5).toNat + G47 ≤ G) ∧ ∀ (x65 : Int) (e65 : x65 = gt (vv Θ47 l0) (0 : Int)) (r65 : 0 ≤ x65 ∧ x65 < 65536), (∀ (c70 : ¬ x65 = 43), (-2147483648 ≤ (((-60) * x36) - x47) ∧ (((-60) * x36) - x47) < 2147483648) ∧ Q (((-60) * x36) - x47) Θ47) ∧ (∀ (c70 : x65 = 43), (-2147483648 ≤ ((60 * x36) + x47) ∧ ((60 * x36) + x47) < 2147483648) ∧ Q ((60 * x36) + x47) Θ47)) ∧ (∀ (c56 : x47 < 0), (g + ((3 : Int) - (1 : Int) + 5).toNat + G36 + (len (vv Θ36 l0) - (3 : Int) + 5).toNat + G47 ≤ G) ∧ Q 0 Θ47))))) : W2_X39_zone_28 ω d G l0 g Θ Q := sorry
set_option maxHeartbeats 4000000 in
theorem s2_X39_zone_287 {ω : AO} {d G : Nat} {l2 : Int} {g : Nat} {Θ : Th} {Q : Int → Th → Prop} (hB : (-2147483648 ≤ l2 ∧ l2 < 2147483648) ∧ (∀ (c288 : l2 < 0 ∨ 7 < l2), (g ≤ G) ∧ Q 0 Θ) ∧ (∀ (c288 : l2 = 0), (g ≤ G) ∧ Q (-240) Θ) ∧ (∀ (c288 : l2 = 1), (g ≤ G) ∧ Q (-300) Θ) ∧ (∀ (c288 : l2 = 2), (g ≤ G) ∧ Q (-300) Θ) ∧ (∀ (c288 : l2 = 3), (g ≤ G) ∧ Q (-360) Θ) ∧ (∀ (c288 : l2 = 4), (g ≤ G) ∧ Q (-360) Θ) ∧ (∀ (c288 : l2 = 5), (g ≤ G) ∧ Q (-420) Θ) ∧ (∀ (c288 : l2 = 6), (g ≤ G) ∧ Q (-420) Θ) ∧ (∀ (c288 : l2 = 7), (g ≤ G) ∧ Q (-480) Θ)) : W2_X39_zone_287 ω d G l2 g Θ Q := sorry
def W2_X39_read_30 (ω : AO) (d G : Nat) (l0 l1 : Int) (g : Nat) (Θ : Th) (Q : Int → Th → Prop) : Prop := Hid (SJ2 ω yX39_read cX39_read 8 (some .long) d G (fun Sz Θz => (eL Sz (q2 ω Θz Q))) 30 [(2, l0), (2, l1), vN, vN, vN, vN, vN, vN] [] g Θ)
def W2_X39_read_52 (ω : AO) (d G : Nat) (l0 : Int) (g : Nat) (Θ : Th) (Q : Int → Th → Prop) : Prop := Hid (SJ2 ω yX39_read cX39_read 8 (some .long) d G (fun Sz Θz => (eL Sz (q2 ω Θz Q))) 52 [(2, l0), vN, vN, vN, vN, vN, vN, vN] [] g Θ)
def W2_X39_read_53 (ω : AO) (d G : Nat) (l0 s0 : Int) (g : Nat) (Θ : Th) (Q : Int → Th → Prop) : Prop := Hid (SJ2 ω yX39_read cX39_read 8 (some .long) d G (fun Sz Θz => (eL Sz (q2 ω Θz Q))) 53 [(2, l0), vN, vN, vN, vN, vN, vN, vN] [(0, s0)] g Θ)
def W2_X39_read_99 (ω : AO) (d G : Nat) (l0 l2 l3 l4 l5 : Int) (g : Nat) (Θ : Th) (Q : Int → Th → Prop) : Prop := Hid (SJ2 ω yX39_read cX39_read 8 (some .long) d G (fun Sz Θz => (eL Sz (q2 ω Θz Q))) 99 [(2, l0), vN, (0, l2), (0, l3), (0, l4), (0, l5), vN, vN] [] g Θ)
def W2_X39_read_137 (ω : AO) (d G : Nat) (l0 l2 l3 l4 l5 l6 l7 : Int) (g : Nat) (Θ : Th) (Q : Int → Th → Prop) : Prop := Hid (SJ2 ω yX39_read cX39_read 8 (some .long) d G (fun Sz Θz => (eL Sz (q2 ω Θz Q))) 137 [(2, l0), vN, (0, l2), (0, l3), (0, l4), (0, l5), (0, l6), (0, l7)] [] g Θ)
set_option maxHeartbeats 4000000 in
theorem s2_X39_read {ω : AO} {d G : Nat} {l0 : Int} {Θ : Th} {Q : Int → Th → Prop} (hB : (1 ≤ d) ∧ (kd Θ l0 = 47) ∧ ∃ G1 : Nat, (0 + G1 ≤ G) ∧ w2_X39_atom ω (d - 1) G1 l0 Θ (fun x1 Θ1 => ∀ (L1 : Le Θ Θ1) (r1 : -1 ≤ x1), (kd Θ1 x1 = 2) ∧ (0 + G1 ≤ G) ∧ ∀ (x6 : Int) (e6 : x6 = if vv Θ1 x1 = [] then 1 else 0) (r6 : x6 = 0 ∨ x6 = 1), (∀ (c9 : ¬ x6 = 0), W2_X39_read_30 ω d G l0 x1 (0 + G1) Θ1 Q) ∧ (∀ (c9 : x6 = 0), ∃ G15 : Nat, (0 + G1 + G15 ≤ G) ∧ w2_X39_isSign ω (d - 1) G15 l0 44 Θ1 (fun x15 Θ15 => ∀ (L15 : Le Θ1 Θ15) (r15 : x15 = 0 ∨ x15 = 1), (∀ (c18 : x15 = 0), W2_X39_read_30 ω d G l0 x1 (0 + G1 + G15) Θ15 Q) ∧ (∀ (c18 : ¬ x15 = 0), ∃ G22 : Nat, (0 + G1 + G15 + G22 ≤ G) ∧ w2_X39_go ω (d - 1) G22 l0 Θ15 (fun Θ22 => ∀ (L22 : Le Θ15 Θ22), ∃ G26 : Nat, (0 + G1 + G15 + G22 + G26 ≤ G) ∧ w2_X39_atom ω (d - 1) G26 l0 Θ22 (fun x26 Θ26 => ∀ (L26 : Le Θ22 Θ26) (r26 : -1 ≤ x26), W2_X39_read_30 ω d G l0 x26 (0 + G1 + G15 + G22 + G26) Θ26 Q))))))) : w2_X39_read ω d G l0 Θ Q := sorry
set_option maxHeartbeats 4000000 in
theorem s2_X39_read_30 {ω : AO} {d G : Nat} {l0 l1 : Int} {g : Nat} {Θ : Th} {Q : Int → Th → Prop} (hB : (1 ≤ d) ∧ (kd Θ l1 = 2) ∧ (2 ≤ d) ∧ (g ≤ G) ∧ ∀ (x31 : Int) (e31 : x31 = len (vv Θ l1)) (r31 : -2147483648 ≤ x31 ∧ x31 < 2147483648), (∀ (c35 : 3 ≤ x31), W2_X39_read_52 ω d G l0 (g) Θ Q) ∧ (∀ (c35 : x31 < 3), (6 ≤ d) ∧ ∀ (x39 : Int) (e39 : x39 = if digB (vv Θ l1) then 1 else 0) (r39 : x39 = 0 ∨ x39 = 1), (∀ (c42 : x39 = 0), W2_X39_read_52 ω d G l0 (g) Θ Q) ∧ (∀ (c42 : ¬ x39 = 0), ((vv Θ l1).all dgB = true) ∧ ∀ (x46 : Int) (e46 : x46 = nmB (vv Θ l1)) (r46 : -2147483648 ≤ x46 ∧ x46 < 2147483648), W2_X39_read_53 ω d G l0 x46 (g) Θ Q))) : W2_X39_read_30 ω d G l0 l1 g Θ Q := sorry
set_option maxHeartbeats 4000000 in
theorem s2_X39_read_52 {ω : AO} {d G : Nat} {l0 : Int} {g : Nat} {Θ : Th} {Q : Int → Th → Prop} (hB : W2_X39_read_53 ω d G l0 ((-1)) (g) Θ Q) : W2_X39_read_52 ω d G l0 g Θ Q := sorry
set_option maxHeartbeats 4000000 in
theorem s2_X39_read_53 {ω : AO} {d G : Nat} {l0 s0 : Int} {g : Nat} {Θ : Th} {Q : Int → Th → Prop} (hB : (1 ≤ d) ∧ (kd Θ l0 = 47) ∧ ∃ G55 : Nat, (g + G55 ≤ G) ∧ w2_X39_atom ω (d - 1) G55 l0 Θ (fun x55 Θ55 => ∀ (L55 : Le Θ Θ55) (r55 : -1 ≤ x55), ∃ G58 : Nat, (g + G55 + G58 ≤ G) ∧ w2_X39_month ω (d - 1) G58 x55 Θ55 (fun x58 Θ58 => ∀ (L58 : Le Θ55 Θ58) (r58 : -2147483648 ≤ x58 ∧ x58 < 2147483648), ∃ G63 : Nat, (g + G55 + G58 + G63 ≤ G) ∧ w2_X39_atom ω (d - 1) G63 l0 Θ58 (fun x63 Θ63 => ∀ (L63 : Le Θ58 Θ63) (r63 : -1 ≤ x63), ∃ G66 : Nat, (g + G55 + G58 + G63 + G66 ≤ G) ∧ w2_X39_year ω (d - 1) G66 x63 Θ63 (fun x66 Θ66 => ∀ (L66 : Le Θ63 Θ66) (r66 : -2147483648 ≤ x66 ∧ x66 < 2147483648), ∃ G72 : Nat, (g + G55 + G58 + G63 + G66 + G72 ≤ G) ∧ w2_X39_atom ω (d - 1) G72 l0 Θ66 (fun x72 Θ72 => ∀ (L72 : Le Θ66 Θ72) (r72 : -1 ≤ x72), ∃ G77 : Nat, (g + G55 + G58 + G63 + G66 + G72 + G77 ≤ G) ∧ w2_X39_two ω (d - 1) G77 x72 24 Θ72 (fun x77 Θ77 => ∀ (L77 : Le Θ72 Θ77) (r77 : -2147483648 ≤ x77 ∧ x77 < 2147483648), ∃ G85 : Nat, (g + G55 + G58 + G63 + G66 + G72 + G77 + G85 ≤ G) ∧ w2_X39_isSign ω (d - 1) G85 l0 58 Θ77 (fun x85 Θ85 => ∀ (L85 : Le Θ77 Θ85) (r85 : x85 = 0 ∨ x85 = 1), (∀ (c88 : ¬ x85 = 0), ∃ G96 : Nat, (g + G55 + G58 + G63 + G66 + G72 + G77 + G85 + G96 ≤ G) ∧ w2_X39_go ω (d - 1) G96 l0 Θ85 (fun Θ96 => ∀ (L96 : Le Θ85 Θ96), W2_X39_read_99 ω d G l0 s0 x58 x66 x77 (g + G55 + G58 + G63 + G66 + G72 + G77 + G85 + G96) Θ96 Q)) ∧ (∀ (c88 : x85 = 0), (g + G55 + G58 + G63 + G66 + G72 + G77 + G85 ≤ G) ∧ Q (-9223372036854775808) Θ85))))))))) : W2_X39_read_53 ω d G l0 s0 g Θ Q := sorry
set_option maxHeartbeats 4000000 in
theorem s2_X39_read_99 {ω : AO} {d G : Nat} {l0 l2 l3 l4 l5 : Int} {g : Nat} {Θ : Th} {Q : Int → Th → Prop} (hB : (1 ≤ d) ∧ (kd Θ l0 = 47) ∧ ∃ G100 : Nat, (g + G100 ≤ G) ∧ w2_X39_atom ω (d - 1) G100 l0 Θ (fun x100 Θ100 => ∀ (L100 : Le Θ Θ100) (r100 : -1 ≤ x100), ∃ G105 : Nat, (g + G100 + G105 ≤ G) ∧ w2_X39_two ω (d - 1) G105 x100 60 Θ100 (fun x105 Θ105 => ∀ (L105 : Le Θ100 Θ105) (r105 : -2147483648 ≤ x105 ∧ x105 < 2147483648), ∃ G116 : Nat, (g + G100 + G105 + G116 ≤ G) ∧ w2_X39_isSign ω (d - 1) G116 l0 58 Θ105 (fun x116 Θ116 => ∀ (L116 : Le Θ105 Θ116) (r116 : x116 = 0 ∨ x116 = 1), (∀ (c119 : x116 = 0), W2_X39_read_137 ω d G l0 l2 l3 l4 l5 x105 0 (g + G100 + G105 + G116) Θ116 Q) ∧ (∀ (c119 : ¬ x116 = 0), ∃ G123 : Nat, (g + G100 + G105 + G116 + G123 ≤ G) ∧ w2_X39_go ω (d - 1) G123 l0 Θ116 (fun Θ123 => ∀ (L123 : Le Θ116 Θ123), ∃ G127 : Nat, (g + G100 + G105 + G116 + G123 + G127 ≤ G) ∧ w2_X39_atom ω (d - 1) G127 l0 Θ123 (fun x127 Θ127 => ∀ (L127 : Le Θ123 Θ127) (r127 : -1 ≤ x127), ∃ G132 : Nat, (g + G100 + G105 + G116 + G123 + G127 + G132 ≤ G) ∧ w2_X39_two ω (d - 1) G132 x127 61 Θ127 (fun x132 Θ132 => ∀ (L132 : Le Θ127 Θ132) (r132 : -2147483648 ≤ x132 ∧ x132 < 2147483648), W2_X39_read_137 ω d G l0 l2 l3 l4 l5 x105 x132 (g + G100 + G105 + G116 + G123 + G127 + G132) Θ132 Q)))))))) : W2_X39_read_99 ω d G l0 l2 l3 l4 l5 g Θ Q := sorry
set_option maxHeartbeats 4000000 in
theorem s2_X39_read_137 {ω : AO} {d G : Nat} {l0 l2 l3 l4 l5 l6 l7 : Int} {g : Nat} {Θ : Th} {Q : Int → Th → Prop} (hB : (-2147483648 ≤ l2 ∧ l2 < 2147483648) ∧ (∀ (c139 : l2 < 1), (g ≤ G) ∧ Q (-9223372036854775808) Θ) ∧ (∀ (c139 : 1 ≤ l2), (-2147483648 ≤ l3 ∧ l3 < 2147483648) ∧ (∀ (c143 : l3 < 0), (g ≤ G) ∧ Q (-9223372036854775808) Θ) ∧ (∀ (c143 : 0 ≤ l3), (-2147483648 ≤ l4 ∧ l4 < 2147483648) ∧ (∀ (c151 : l4 < 1900), (g ≤ G) ∧ Q (-9223372036854775808) Θ) ∧ (∀ (c151 : 1900 ≤ l4), (∀ (c159 : 2999 < l4), (g ≤ G) ∧ Q (-9223372036854775808) Θ) ∧ (∀ (c159 : l4 ≤ 2999), (-2147483648 ≤ l5 ∧ l5 < 2147483648) ∧ (∀ (c164 : l5 < 0), (g ≤ G) ∧ Q (-9223372036854775808) Θ) ∧ (∀ (c164 : 0 ≤ l5), (-2147483648 ≤ l6 ∧ l6 < 2147483648) ∧ (∀ (c169 : l6 < 0), (g ≤ G) ∧ Q (-9223372036854775808) Θ) ∧ (∀ (c169 : 0 ≤ l6), (-2147483648 ≤ l7 ∧ l7 < 2147483648) ∧ (∀ (c174 : l7 < 0), (g ≤ G) ∧ Q (-9223372036854775808) Θ) ∧ (∀ (c174 : 0 ≤ l7), (1 ≤ d) ∧ (2 ≤ d) ∧ (g ≤ G) ∧ ∀ (x181 : Int) (e181 : x181 = mdF l4 l3) (r181 : -2147483648 ≤ x181 ∧ x181 < 2147483648), (∀ (c184 : l2 ≤ x181), ∃ G198 : Nat, (g + G198 ≤ G) ∧ w2_X39_days ω (d - 1) G198 l4 l3 l2 Θ (fun x198 Θ198 => ∀ (L198 : Le Θ Θ198) (r198 : -2147483648 ≤ x198 ∧ x198 < 2147483648), (-2147483648 ≤ (3600 * l5) ∧ (3600 * l5) < 2147483648) ∧ (-2147483648 ≤ (60 * l6) ∧ (60 * l6) < 2147483648) ∧ (kd Θ198 l0 = 47) ∧ ∃ G225 : Nat, (g + G198 + G225 ≤ G) ∧ w2_X39_atom ω (d - 1) G225 l0 Θ198 (fun x225 Θ225 => ∀ (L225 : Le Θ198 Θ225) (r225 : -1 ≤ x225), ∃ G228 : Nat, (g + G198 + G225 + G228 ≤ G) ∧ w2_X39_zone ω (d - 1) G228 x225 Θ225 (fun x228 Θ228 => ∀ (L228 : Le Θ225 Θ228) (r228 : -2147483648 ≤ x228 ∧ x228 < 2147483648), (-2147483648 ≤ (60 * x228) ∧ (60 * x228) < 2147483648) ∧ (g + G198 + G225 + G228 ≤ G) ∧ Q (((((86400 * x198) + (3600 * l5)) + (60 * l6)) + l7) - (60 * x228)) Θ228)))) ∧ (∀ (c184 : x181 < l2), Q (-9223372036854775808) Θ))))))))) : W2_X39_read_137 ω d G l0 l2 l3 l4 l5 l6 l7 g Θ Q := sorry
/-! 62.ja.lean.txt -/
/-! String.hashCode and String.indexOf of a String -/
set_option maxRecDepth 100000
def w_J10_signedHashCodeW (ω : AO) (d G : Nat) (l0 l1 l2 l3 : Int) (S : AS) (Q : Int → AS → Prop) : Prop := Hid (Ctr ω yJ10_signedHashCode cJ10_signedHashCode 6 (some .int) d G [(0, l0), (2, l1), (0, l2), (0, l3)] S (eI S Q))
def W_J10_signedHashCodeW_8 (ω : AO) (d G : Nat) (l0 l1 l4 l5 : Int) (g : Nat) (S : AS) (Q : Int → AS → Prop) : Prop := Hid (SJ ω yJ10_signedHashCode cJ10_signedHashCode 6 (some .int) d G (fun S0 => eI S0 Q) 8 [(0, l0), (2, l1), vN, vN, (0, l4), (0, l5)] [] g S)
theorem s_J10_signedHashCodeW {ω : AO} {d G : Nat} {l0 l1 l2 l3 : Int} {S : AS} {Q : Int → AS → Prop} (hB : W_J10_signedHashCodeW_8 ω d G l0 l1 ((l2 + l3)) l2 (0) S Q) : w_J10_signedHashCodeW ω d G l0 l1 l2 l3 S Q := sorry
theorem s_J10_signedHashCodeW_8 {ω : AO} {d G : Nat} {l0 l1 l4 l5 : Int} {g : Nat} {S : AS} {Q : Int → AS → Prop} (hB : (-2147483648 ≤ l5 ∧ l5 < 2147483648) ∧ (-2147483648 ≤ l4 ∧ l4 < 2147483648) ∧ (∀ (c12 : l4 ≤ l5), (g ≤ G) ∧ (-2147483648 ≤ l0 ∧ l0 < 2147483648) ∧ Q l0 S) ∧ (∀ (c12 : l5 < l4), (tg S l1 = 101) ∧ (0 ≤ l5 ∧ l5 < ln S l1) ∧ ∀ (v22 : Int) (e22 : v22 = ct S l1 l5) (r22 : -128 ≤ v22 ∧ v22 < 128), W_J10_signedHashCodeW_8 ω d G ((wI ((31 * l0) + (v22 % 256)))) l1 l4 ((l5 + 1)) (g) S Q)) : W_J10_signedHashCodeW_8 ω d G l0 l1 l4 l5 g S Q := sorry
section HSH
variable {ω : AO} {d G g : Nat} {S S' : AS} {a b v s x : Int} {l m : List Int} {Q : Int → AS → Prop} {Θ : Th}
theorem hsh_in (l : List Int) : inI (hsh l) := sorry
theorem hsh_snoc : hsh (l ++ [x]) = wI (31 * hsh l + x) := by unfold hsh; rw [List.foldl_append]; rfl
theorem wI_id (h : inI x) : wI x = x := sorry
theorem t_J10_signedHashCode (h : L8 S v l) (hl : ln S v ≤ 100000000) (hQ : Q (hsh l) S) : w_J10_signedHashCode ω d G 0 v 0 (len l) S Q := sorry
theorem t_J12_hashCode (hd : 2 ≤ d) (h : L8 S v l) (hn : ln S v = len l) (hQ : Q (hsh l) S) : w_J12_hashCode ω d G v S Q := sorry
/-- a String's hash is kept -/
theorem R2.hash {k : Int} (h : R2 ω S Θ) (w : bel S) (hs : Str Θ a l) (hb : bo ω ≤ a) (hc : ct S a 2 = 0) (hk : (k = 2 ∧ x = hsh l ∧ x ≠ 0) ∨ (k = 3 ∧ x = 1 ∧ hsh l = 0)) : R2 ω (wr S a k x) Θ := sorry
theorem u_J2_hashCode {Q : Int → Th → Prop} (hd : 4 ≤ d) (hs : Str Θ a l) (hw : wide l = 0) (hQ : Q (hsh l) Θ) : w2_J2_hashCode ω d G a Θ Q := sorry
end HSH
/-! String.indexOf of a String -/
/-- the first place where one row stands in another one, or -1 -/
def IsPix (l m : List Int) (r : Int) : Prop := (r = -1 ∧ ∀ i, ¬ pAt l m i) ∨ (pAt l m r ∧ ∀ i, i < r → ¬ pAt l m i)
section IXS
variable {ω : AO} {d G : Nat} {S : AS} {a b v s : Int} {l m : List Int} {Q : Int → AS → Prop} {Θ : Th}
theorem t_J12_indexOf_2 (h : L8 S v l) (h' : L8 S s m) (hl : len l ≤ 15000000) (hm : len m ≤ 15000000) (hm0 : 0 < len m) (hQ : ∀ r, IsPix l m r → Q r S) : w_J12_indexOf_2 ω d G v (len l) s (len m) 0 S Q := sorry
theorem t_J2_indexOf (hd : 4 ≤ d) (h : StrC S a l) (h' : StrC S b m) (hl : len l ≤ 15000000) (hm : len m ≤ 15000000) (hw : wide l = 0) (hw' : wide m = 0) (hQ : ∀ r, IsPix l m r → Q r S) : w_J2_indexOf ω d G a b S Q := sorry
theorem u_J2_indexOf {Q : Int → Th → Prop} (hd : 4 ≤ d) (h : Str Θ a l) (h' : Str Θ b m) (hw : wide l = 0) (hw' : wide m = 0) (hQ : ∀ r, IsPix l m r → Q r Θ) : w2_J2_indexOf ω d G a b Θ Q := sorry
end IXS

