/-! ===== texts: what both readers read ===== -/
/-- a text's signs, its size -/
abbrev TX : Type := (Nat → Int) × Nat
def tx_see (x : TX) (k : Nat) : Int := if k < x.2 then x.1 k else -1
/-- from k on, while P, m at most -/
def run1 (P : Nat → Bool) : Nat → Nat → Nat
  | 0, k => k
  | m + 1, k => if P k then run1 P m (k + 1) else k
theorem run1_ge (P : Nat → Bool) : ∀ m k, k ≤ run1 P m k ∧ run1 P m k ≤ k + m
  | 0, k => by simp [run1]
  | m + 1, k => by
    have := run1_ge P m (k + 1)
    unfold run1
    split <;> omega
theorem run1_in (P : Nat → Bool) : ∀ m k j, k ≤ j → j < run1 P m k → P j = true
  | 0, k, j, h1, h2 => by unfold run1 at h2; omega
  | m + 1, k, j, h1, h2 => by
    unfold run1 at h2
    split at h2
    · rename_i c
      by_cases e : j = k
      · subst e; exact c
      · exact run1_in P m (k + 1) j (by omega) h2
    · omega
theorem run1_out (P : Nat → Bool) : ∀ m k, run1 P m k < k + m → P (run1 P m k) = false
  | 0, k, h => by unfold run1 at h; omega
  | m + 1, k, h => by
    unfold run1 at h ⊢
    split
    · rename_i c
      rw [if_pos c] at h
      exact run1_out P m (k + 1) (by omega)
    · rename_i c
      simpa using c
theorem run1_pos {P : Nat → Bool} {m k : Nat} (h : P k = true) (hm : 0 < m) : k < run1 P m k := by
  obtain ⟨j, rfl⟩ : ∃ j, m = j + 1 := ⟨m - 1, by omega⟩
  unfold run1
  rw [if_pos h]
  have := (run1_ge P j (k + 1)).1
  omega
def tx_blank (x : TX) (k : Nat) : Bool := decide (k < x.2) && (decide (x.1 k = 10) || decide (x.1 k = 32))
def tx_small (x : TX) (k : Nat) : Bool := decide (k < x.2) && (decide (97 ≤ x.1 k) && decide (x.1 k ≤ 122))
def tx_digit (x : TX) (k : Nat) : Bool := decide (k < x.2) && (decide (48 ≤ x.1 k) && decide (x.1 k ≤ 57))
/-- the words -/
def kws : List (List Int) := [[114, 105, 118, 101, 114], [119, 101, 101, 107], [115, 112, 97, 110], [97, 116], [114, 101, 115, 116], [112, 101, 114, 115, 111, 110], [119, 101, 115, 116], [101, 97, 115, 116], [108, 111, 97, 100], [116, 111], [98, 121], [119, 97, 108, 107, 115], [115, 101, 114, 118, 101, 115], [102, 111, 103, 103, 121], [104, 111, 117, 114], [103, 97, 112], [119, 104, 111], [102, 111, 103], [115, 105, 100, 101], [97, 110, 100], [111, 114], [110, 111, 116]]
/-- the signs -/
def sgs : List Int := [59, 58, 43, 45, 42, 40, 41, 91, 93, 61, 60, 62]
def tx_cut (x : TX) (a b : Nat) : List Int := (List.range (b - a)).map (fun i => x.1 (a + i))
def tx_key (x : TX) (a b : Nat) : Nat := kws.findIdx (fun w => decide (w = tx_cut x a b))
def tx_num (x : TX) (a b : Nat) : Int := (tx_cut x a (if b - a ≤ 3 then b else a + 3)).foldl (fun n c => 10 * n + c - 48) 0
def tx_sign (c : Int) : Nat := if sgs.findIdx (fun w => decide (w = c)) < 12 then 30 + sgs.findIdx (fun w => decide (w = c)) else 25
/-- where a reader stands: the token's begin, what is behind it, its kind, the latest number, what is wrong, where -/
abbrev TS : Type := Nat × Nat × Nat × Int × Int × Int
def tz_at (s : TS) : Nat := s.1
def tz_bh (s : TS) : Nat := s.2.1
def tz_kd (s : TS) : Nat := s.2.2.1
def tz_nu (s : TS) : Int := s.2.2.2.1
def tz_wr (s : TS) : Int := s.2.2.2.2.1
def tz_wa (s : TS) : Int := s.2.2.2.2.2
/-- the next token, from k on -/
def tx_tok (x : TX) (k : Nat) : Nat × Nat × Nat × Int :=
  let a := run1 (tx_blank x) (x.2 - k) k
  if x.2 ≤ a then (a, a, 24, 0)
  else if tx_small x a then (let b := run1 (tx_small x) (x.2 - a) a; (a, b, tx_key x a b, 0))
  else if tx_digit x a then (let b := run1 (tx_digit x) (x.2 - a) a; (a, b, if 3 < b - a then 25 else 23, tx_num x a b))
  else (a, a + 1, tx_sign (x.1 a), 0)
def tz_next (x : TX) (s : TS) : TS := let q := tx_tok x (tz_bh s); (q.1, q.2.1, q.2.2.1, q.2.2.2, tz_wr s, tz_wa s)
def tz_fail (k : Int) (s : TS) : TS := if tz_wr s = 0 then (tz_at s, tz_bh s, tz_kd s, tz_nu s, (if tz_kd s = 25 then 1 else k), (tz_at s : Int)) else s
def tz_is (k : Nat) (s : TS) : Bool := decide (tz_wr s = 0) && decide (tz_kd s = k)
def tz_eat (x : TX) (k : Nat) (s : TS) : TS := if tz_is k s then tz_next x s else s
/-- it must be so -/
def tz_must (x : TX) (k : Nat) (s : TS) : TS := if tz_is k s then tz_next x s else tz_fail 2 s
def tz_take (x : TX) (lo hi : Int) (s : TS) : TS := if tz_is 23 s then (if lo ≤ tz_nu s ∧ tz_nu s ≤ hi then tz_next x s else tz_fail 3 s) else tz_fail 2 s
/-- in what is within -/
def tz_in (x : TX) (k : Nat) (s : TS) : TS := let s1 := if k = 1 then tz_fail 4 s else s; if tz_wr s1 = 0 then tz_next x s1 else s1
def tz_code (c : Int) (s : TS) : List Int := if tz_wr s = 0 then [c] else []
def tz_word (law : Nat) (kd : Nat) : Option Int := if kd = 15 then some 0 else if kd = 14 then some 1 else if kd = 16 then some 2 else if kd = 8 then some 3 else if kd = 17 then some 4 else if kd = 18 ∧ law = 0 then some 5 else none
/-! what is read: where the reader stands then, codes -/
abbrev TP : Type := TS → TS × List Int
/-- an atom; k: 7 less the depth -/
def pAtom (x : TX) (law k : Nat) (rec : TP) : TP := fun s =>
  if tz_is 23 s then (tz_next x s, [tz_nu s])
  else if tz_wr s = 0 ∧ (tz_word law (tz_kd s)).isSome then (tz_next x s, [1000 + (tz_word law (tz_kd s)).getD 0])
  else if tz_is 35 s then (let s1 := tz_in x k s; if tz_wr s1 = 0 then (let q := rec s1; (tz_must x 36 q.1, q.2)) else (s1, []))
  else (tz_fail 2 s, [])
/-- a sign of one kind, what is behind it, as often as it stands there -/
def pLoop (x : TX) (sign : Nat → Option Int) (p : TP) : Nat → TP
  | 0 => fun s => (s, [])
  | m + 1 => fun s => if tz_wr s = 0 then (match sign (tz_kd s) with
      | some c => (let q := p (tz_next x s); let q2 := pLoop x sign p m q.1; (q2.1, q.2 ++ tz_code c q.1 ++ q2.2))
      | none => (s, [])) else (s, [])
def pRep (x : TX) (sign : Nat → Option Int) (p : TP) : TP := fun s => let q := p s; let q2 := pLoop x sign p 1000 q.1; (q2.1, q.2 ++ q2.2)
def sg_star (k : Nat) : Option Int := if k = 34 then some 3002 else none
def sg_sum (k : Nat) : Option Int := if k = 32 then some 3000 else if k = 33 then some 3001 else none
def sg_and (k : Nat) : Option Int := if k = 19 then some 3007 else none
def sg_or (k : Nat) : Option Int := if k = 20 then some 3008 else none
def sg_cmp (k : Nat) : Option Int := if k = 39 then some 3003 else if k = 40 then some 3004 else if k = 41 then some 3005 else none
def pTerm (x : TX) (law k : Nat) (rec : TP) : TP := pRep x sg_star (pAtom x law k rec)
def pSum (x : TX) (law : Nat) : Nat → TP
  | 0 => fun s => (s, [])
  | k + 1 => pRep x sg_sum (pTerm x law (k + 1) (pSum x law k))
def pTruth (x : TX) (u : TP) : TP := pRep x sg_or (pRep x sg_and u)
def pCmp (x : TX) (sm : TP) : TP := fun s =>
  let q := sm s
  let s1 := if tz_wr q.1 = 0 ∧ (sg_cmp (tz_kd q.1)).isSome then tz_next x q.1 else tz_fail 2 q.1
  let q2 := sm s1
  (q2.1, q.2 ++ q2.2 ++ tz_code ((sg_cmp (tz_kd q.1)).getD 3005) q2.1)
def pUnit (x : TX) (law : Nat) : Nat → TP
  | 0 => fun s => (s, [])
  | k + 1 => fun s =>
    if tz_is 21 s then (let s1 := tz_in x (k + 1) s; if tz_wr s1 = 0 then (let q := pUnit x law k s1; (q.1, q.2 ++ tz_code 3006 q.1)) else (s1, []))
    else if tz_is 37 s then (let s1 := tz_in x (k + 1) s; if tz_wr s1 = 0 then (let q := pTruth x (pUnit x law k) s1; (tz_must x 38 q.1, q.2)) else (s1, []))
    else pCmp x (pSum x law (k + 1)) s
/-! ===== lines ===== -/
/-- codes laid behind the ones of a row -/
def app (f : Nat → Int) (cs : List Int) : Nat → Int := up (cp f (237 + (f 236).toNat) (fun i => cs.getD i 0) cs.length) 236 (f 236 + cs.length)
abbrev LRS : Type := (Nat → Int) × TS
def pSpan (x : TX) (q : LRS) : LRS :=
  let f := q.1
  let s1 := tz_next x q.2
  let s2 := tz_take x 0 (f 2 - 1) s1
  if tz_is 3 s2 then (let s3 := tz_next x s2; let s4 := tz_take x 0 (f 1 - 1) s3; (if tz_wr s4 = 0 then up f (29 + (tz_nu s1).toNat) (tz_nu s3) else f, s4))
  else if tz_is 4 s2 then (up f (29 + (tz_nu s1).toNat) (-1), tz_next x s2) else (f, tz_fail 2 s2)
/-- a spot: its number, where the reader stands then -/
def pSpot (x : TX) (G : Int) (s : TS) : Int × TS :=
  let s1 := tz_take x 0 (G - 1) s
  if tz_is 7 s1 then (2 * tz_nu s + 1, tz_next x s1) else if tz_is 6 s1 then (2 * tz_nu s, tz_next x s1) else (2 * tz_nu s, tz_fail 2 s1)
/-- flags of a person, as often as they stand there -/
def pFlag (x : TX) (p : Nat) : Nat → LRS → LRS
  | 0, q => q
  | m + 1, q =>
    if tz_is 8 q.2 then (let s1 := tz_next x q.2; let s2 := tz_take x 0 99 s1; pFlag x p m (up q.1 (11 + p) (tz_nu s1), s2))
    else if tz_is 9 q.2 then (let s1 := tz_next x q.2; let sp := pSpot x (q.1 1) s1; let s2 := tz_must x 10 sp.2; let s3 := tz_take x 0 999 s2; pFlag x p m (up (up q.1 (16 + p) sp.1) (21 + p) (tz_nu s2), s3))
    else q
def pPerson (x : TX) (q : LRS) : LRS :=
  let f := q.1
  if f 3 = 5 then (f, tz_fail 4 q.2) else
  let s1 := tz_must x 3 (tz_next x q.2)
  let sp := pSpot x (f 1) s1
  let r := pFlag x (f 3).toNat 1000 (up f (35 + (f 3).toNat) sp.1, sp.2)
  if tz_wr r.2 = 0 then (up r.1 3 (f 3 + 1), r.2) else r
def pLaw (x : TX) (law : Nat) (q : LRS) : LRS :=
  let f := q.1
  let s1 := tz_must x 31 (tz_next x q.2)
  let r := pTruth x (pUnit x law 7) s1
  let f1 := app f r.2
  if tz_wr r.1 = 0 then (up (up (up f1 (5 + law) 1) (7 + law) (f 236)) (9 + law) (f1 236 - f 236), r.1) else (f1, r.1)
def pLine (x : TX) (q : LRS) : LRS :=
  if tz_is 2 q.2 then pSpan x q else if tz_is 5 q.2 then pPerson x q else if tz_is 11 q.2 then pLaw x 0 q else if tz_is 12 q.2 then pLaw x 1 q
  else if tz_is 13 q.2 then (let s1 := tz_next x q.2; (up q.1 4 (tz_nu s1), tz_take x 0 10 s1))
  else if tz_is 14 q.2 then (let s1 := tz_next x q.2; (up q.1 26 (tz_nu s1), tz_take x 0 999 s1))
  else (q.1, tz_fail 2 q.2)
def pEnds (x : TX) (q : LRS) : LRS := (up q.1 0 (q.1 0 + 1), tz_must x 30 q.2)
def pLines (x : TX) : Nat → LRS → LRS
  | 0, q => q
  | m + 1, q => if tz_wr q.2 = 0 ∧ tz_kd q.2 ≠ 24 then pLines x m (pEnds x (pLine x q)) else q
def row0 : Nat → Int := fun k => if k = 1 then 2 else if k = 2 then 1 else if 16 ≤ k ∧ k < 26 then -1 else 0
def pRiver (x : TX) : LRS :=
  let s1 := tz_next x (0, 0, 0, 0, 0, 0)
  let s2 := tz_must x 0 s1
  let s3 := tz_take x 2 4 s2
  let f1 := up row0 1 (tz_nu s2)
  let s4 := tz_must x 1 s3
  let s5 := tz_take x 1 6 s4
  let f2 := up f1 2 (tz_nu s4)
  pLines x 1000 (pEnds x (f2, s5))
