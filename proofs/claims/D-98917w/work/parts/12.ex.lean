/-! ===== one instruction, backwards: what must hold for the rest to go on as K says ===== -/
def ab_jp (K : Nat → Prop) (pc : Nat) (off : Int) : Prop := 0 ≤ (pc : Int) + off ∧ K ((pc : Int) + off).toNat
def ab_br (c : Prop) (K : Nat → Prop) (pc : Nat) (off : Int) : Prop := 0 ≤ (pc : Int) + off ∧ (c → K ((pc : Int) + off).toNat) ∧ (¬ c → K (pc + 3))
def ab_sw (K : Nat → Prop) (pc : Nat) (x : Int32) : Int → List Int → Prop
  | _, [] => True
  | lo, o :: t => (x.toInt = lo → ab_jp K pc o) ∧ ab_sw K pc x (lo + 1) t
/-- the place i lies in an array of n -/
def ab_in (i : Int32) (n : Nat) : Prop := vp_in i n
/-- an array at a, of the types t0 up to t1: its length -/
def ab_pf (M : ab_M) (a k kd : Nat) (v : Value) (K : ab_M → Prop) : Prop :=
  if kd = 1 then (match v with
    | .long x => K (ab_wL M a k x)
    | _ => False)
  else if kd = 2 then (match ab_rv v with
    | some r => K (ab_wR M a k r)
    | none => False)
  else (match v with
    | .int x => (kd = 0 ∨ kd = 3 ∧ (x = 0 ∨ x = 1)) ∧ K (ab_wI M a k x)
    | _ => False)
def ab_fd (own idx c : Nat) (K : Nat → Nat → Prop) : Prop := match ab_fl own idx c with
  | some k => K k (ab_kd (ab_tyc c k))
  | none => False
def ab_fin (c k : Nat) : Bool := match vwCl[c]? with
  | some q => (q.2.1 k).2.2.2
  | none => false
def ab_obj (M : ab_M) (a : Nat) (K : Nat → Prop) : Prop := match ab_h M a with
  | some (c, _) => c < 63 ∧ K c
  | none => False
/-- an array of type t at a: its length -/
def ab_arr (M : ab_M) (a t : Nat) (K : Nat → Prop) : Prop := match ab_h M a with
  | some (c, n) => c = 64 + t ∧ K n
  | none => False
def ab_cast (M : ab_M) (t : Nat) (v : Value) : Option Bool := match ab_rv v with
  | some none => some false
  | some (some a) => match ab_h M a with
    | some (c, _) => if 64 ≤ c ∧ c ≤ 72 then some (c == 64 + t) else none
    | none => none
  | none => none
/-- how much room values take -/
def ab_sz (r : List Value) : Nat := (r.map fun v => v.category).sum
theorem sz_i {x : Int32} {r : List Value} : ab_sz (.int x :: r) = ab_sz r + 1 := Nat.add_comm 1 _
theorem sz_l {x : Int64} {r : List Value} : ab_sz (.long x :: r) = ab_sz r + 2 := Nat.add_comm 2 _
theorem sz_r {x : Nat} {r : List Value} : ab_sz (.ref x :: r) = ab_sz r + 1 := Nat.add_comm 1 _
theorem sz_n {r : List Value} : ab_sz (.null :: r) = ab_sz r + 1 := Nat.add_comm 1 _
theorem sz_q {q : Option Nat} {r : List Value} : ab_sz (va_rf q :: r) = ab_sz r + 1 := by cases q <;> exact Nat.add_comm 1 _
theorem sz_0 : ab_sz [] = 0 := rfl
def ab_call (C : Nat → List Value → ab_M → (Option Value → ab_M → Prop) → Prop) (mid : Nat) (as rest : List Value) (M : ab_M) (K : List Value → ab_M → Prop) : Prop :=
  ab_sz rest ≤ 8 ∧ C mid as M (fun v M' => K (v.toList ++ rest) M')
def ab_atT (t : ArrayType) : Option Nat := match t with
  | .int => some 0
  | .byte => some 1
  | .short => some 2
  | .boolean => some 3
  | .long => some 4
  | _ => none
/-- may an object of class c lie in an array of type t -/
def ab_can (t c : Nat) : Bool := (t == 5 && (c == 2 || c == 3 || c == 4 || c == 5)) || (t == 6 && c == 6) || (t == 7 && c == 7) || (t == 8 && c == 1)
def ab_ex (own : Nat) (ini : Bool) (K : Nat → List (Option Value) → List Value → ab_M → Prop) (C : Nat → List Value → ab_M → (Option Value → ab_M → Prop) → Prop) (Q : Option Value → ab_M → Prop) (pc : Nat) (i : Instr) (n : Nat) (L : List (Option Value)) (st : List Value) (M : ab_M) : Prop :=
  match i with
  | .iconst v => n = 1 ∧ K (pc + 1) L (.int (Int32.ofInt v) :: st) M
  | .bipush v => n = 2 ∧ K (pc + 2) L (.int (Int8.ofInt v).toInt32 :: st) M
  | .sipush v => n = 3 ∧ K (pc + 3) L (.int (Int16.ofInt v).toInt32 :: st) M
  | .lconst v => n = 1 ∧ K (pc + 1) L (.long (Int64.ofNat (v : Nat)) :: st) M
  | .aconst_null => n = 1 ∧ K (pc + 1) L (.null :: st) M
  | .ldc idx => n = 2 ∧ (match ab_kc own idx with
    | some v => K (pc + 2) L (.int v :: st) M
    | none => match ab_ks own idx with
      | some k => K (pc + 2) L (.ref k :: st) M
      | none => False)
  | .ldc_w idx => n = 3 ∧ (match ab_kc own idx with
    | some v => K (pc + 3) L (.int v :: st) M
    | none => False)
  | .ldc2_w idx => n = 3 ∧ (match ab_kl own idx with
    | some v => K (pc + 3) L (.long v :: st) M
    | none => False)
  | .iload_n k => n = 1 ∧ (match L[(k : Nat)]? with
    | some (some (.int x)) => K (pc + 1) L (.int x :: st) M
    | _ => False)
  | .iload k => n = 2 ∧ (match L[k]? with
    | some (some (.int x)) => K (pc + 2) L (.int x :: st) M
    | _ => False)
  | .lload_n k => n = 1 ∧ (match L[(k : Nat)]? with
    | some (some (.long x)) => K (pc + 1) L (.long x :: st) M
    | _ => False)
  | .lload k => n = 2 ∧ (match L[k]? with
    | some (some (.long x)) => K (pc + 2) L (.long x :: st) M
    | _ => False)
  | .aload_n k => n = 1 ∧ (match L[(k : Nat)]? with
    | some (some v) => (ab_rv v).isSome = true ∧ K (pc + 1) L (v :: st) M
    | _ => False)
  | .aload k => n = 2 ∧ (match L[k]? with
    | some (some v) => (ab_rv v).isSome = true ∧ K (pc + 2) L (v :: st) M
    | _ => False)
  | .istore_n k => n = 1 ∧ (match st with
    | .int x :: r => (k : Nat) < L.length ∧ K (pc + 1) (ab_st1 L k (.int x)) r M
    | _ => False)
  | .istore k => n = 2 ∧ (match st with
    | .int x :: r => k < L.length ∧ K (pc + 2) (ab_st1 L k (.int x)) r M
    | _ => False)
  | .astore_n k => n = 1 ∧ (match st with
    | v :: r => (ab_rv v).isSome = true ∧ (k : Nat) < L.length ∧ K (pc + 1) (ab_st1 L k v) r M
    | _ => False)
  | .astore k => n = 2 ∧ (match st with
    | v :: r => (ab_rv v).isSome = true ∧ k < L.length ∧ K (pc + 2) (ab_st1 L k v) r M
    | _ => False)
  | .lstore_n k => n = 1 ∧ (match st with
    | .long x :: r => (k : Nat) + 1 < L.length ∧ K (pc + 1) (ab_st2 L k (.long x)) r M
    | _ => False)
  | .lstore k => n = 2 ∧ (match st with
    | .long x :: r => k + 1 < L.length ∧ K (pc + 2) (ab_st2 L k (.long x)) r M
    | _ => False)
  | .iinc k d => n = 3 ∧ (match L[k]? with
    | some (some (.int x)) => K (pc + 3) (ab_st1 L k (.int (x + Int32.ofInt d))) st M
    | _ => False)
  | .iadd => n = 1 ∧ (match st with
    | .int y :: .int x :: r => K (pc + 1) L (.int (x + y) :: r) M
    | _ => False)
  | .isub => n = 1 ∧ (match st with
    | .int y :: .int x :: r => K (pc + 1) L (.int (x - y) :: r) M
    | _ => False)
  | .imul => n = 1 ∧ (match st with
    | .int y :: .int x :: r => K (pc + 1) L (.int (x * y) :: r) M
    | _ => False)
  | .iand => n = 1 ∧ (match st with
    | .int y :: .int x :: r => K (pc + 1) L (.int (x &&& y) :: r) M
    | _ => False)
  | .ior => n = 1 ∧ (match st with
    | .int y :: .int x :: r => K (pc + 1) L (.int (x ||| y) :: r) M
    | _ => False)
  | .ixor => n = 1 ∧ (match st with
    | .int y :: .int x :: r => K (pc + 1) L (.int (x ^^^ y) :: r) M
    | _ => False)
  | .idiv => n = 1 ∧ (match st with
    | .int y :: .int x :: r => ¬ y = 0 ∧ K (pc + 1) L (.int (x / y) :: r) M
    | _ => False)
  | .irem => n = 1 ∧ (match st with
    | .int y :: .int x :: r => ¬ y = 0 ∧ K (pc + 1) L (.int (x - x / y * y) :: r) M
    | _ => False)
  | .ishl => n = 1 ∧ (match st with
    | .int y :: .int x :: r => K (pc + 1) L (.int (x <<< (y &&& 31)) :: r) M
    | _ => False)
  | .ishr => n = 1 ∧ (match st with
    | .int y :: .int x :: r => K (pc + 1) L (.int (x >>> (y &&& 31)) :: r) M
    | _ => False)
  | .iushr => n = 1 ∧ (match st with
    | .int y :: .int x :: r => K (pc + 1) L (.int (x.toUInt32 >>> (y.toUInt32 &&& Int32.toUInt32 31)).toInt32 :: r) M
    | _ => False)
  | .ladd => n = 1 ∧ (match st with
    | .long y :: .long x :: r => K (pc + 1) L (.long (x + y) :: r) M
    | _ => False)
  | .lsub => n = 1 ∧ (match st with
    | .long y :: .long x :: r => K (pc + 1) L (.long (x - y) :: r) M
    | _ => False)
  | .lmul => n = 1 ∧ (match st with
    | .long y :: .long x :: r => K (pc + 1) L (.long (x * y) :: r) M
    | _ => False)
  | .land => n = 1 ∧ (match st with
    | .long y :: .long x :: r => K (pc + 1) L (.long (x &&& y) :: r) M
    | _ => False)
  | .lor => n = 1 ∧ (match st with
    | .long y :: .long x :: r => K (pc + 1) L (.long (x ||| y) :: r) M
    | _ => False)
  | .ldiv => n = 1 ∧ (match st with
    | .long y :: .long x :: r => ¬ y = 0 ∧ K (pc + 1) L (.long (x / y) :: r) M
    | _ => False)
  | .lrem => n = 1 ∧ (match st with
    | .long y :: .long x :: r => ¬ y = 0 ∧ K (pc + 1) L (.long (x - x / y * y) :: r) M
    | _ => False)
  | .lshl => n = 1 ∧ (match st with
    | .int y :: .long x :: r => K (pc + 1) L (.long (x <<< (y.toInt64 &&& 63)) :: r) M
    | _ => False)
  | .lshr => n = 1 ∧ (match st with
    | .int y :: .long x :: r => K (pc + 1) L (.long (x >>> (y.toInt64 &&& 63)) :: r) M
    | _ => False)
  | .lcmp => n = 1 ∧ (match st with
    | .long y :: .long x :: r => K (pc + 1) L (.int (lg_cmp x y) :: r) M
    | _ => False)
  | .i2l => n = 1 ∧ (match st with
    | .int x :: r => K (pc + 1) L (.long x.toInt64 :: r) M
    | _ => False)
  | .l2i => n = 1 ∧ (match st with
    | .long x :: r => K (pc + 1) L (.int x.toInt32 :: r) M
    | _ => False)
  | .i2b => n = 1 ∧ (match st with
    | .int x :: r => K (pc + 1) L (.int x.toInt8.toInt32 :: r) M
    | _ => False)
  | .i2s => n = 1 ∧ (match st with
    | .int x :: r => K (pc + 1) L (.int x.toInt16.toInt32 :: r) M
    | _ => False)
  | .dup => n = 1 ∧ (match st with
    | v :: r => v.category = 1 ∧ K (pc + 1) L (v :: v :: r) M
    | _ => False)
  | .dup2 => n = 1 ∧ (match st with
    | v :: w :: r => v.category = 1 ∧ w.category = 1 ∧ K (pc + 1) L (v :: w :: v :: w :: r) M
    | _ => False)
  | .pop => n = 1 ∧ (match st with
    | v :: r => v.category = 1 ∧ K (pc + 1) L r M
    | _ => False)
  | .goto off => n = 3 ∧ ab_jp (fun p => K p L st M) pc off
  | .ifCond cn off => n = 3 ∧ (match st with
    | .int x :: r => (match cn with
      | .eq => ab_br (x = 0) (fun p => K p L r M) pc off
      | .ne => ab_br (¬ x = 0) (fun p => K p L r M) pc off
      | .lt => ab_br (x < 0) (fun p => K p L r M) pc off
      | .ge => ab_br (0 ≤ x) (fun p => K p L r M) pc off
      | .gt => ab_br (0 < x) (fun p => K p L r M) pc off
      | .le => ab_br (x ≤ 0) (fun p => K p L r M) pc off)
    | _ => False)
  | .if_icmp cn off => n = 3 ∧ (match st with
    | .int y :: .int x :: r => (match cn with
      | .eq => ab_br (x = y) (fun p => K p L r M) pc off
      | .ne => ab_br (¬ x = y) (fun p => K p L r M) pc off
      | .lt => ab_br (x < y) (fun p => K p L r M) pc off
      | .ge => ab_br (y ≤ x) (fun p => K p L r M) pc off
      | .gt => ab_br (y < x) (fun p => K p L r M) pc off
      | .le => ab_br (x ≤ y) (fun p => K p L r M) pc off)
    | _ => False)
  | .ifnull off => n = 3 ∧ (match st with
    | v :: r => (match ab_rv v with
      | some q => ab_br (q = none) (fun p => K p L r M) pc off
      | none => False)
    | _ => False)
  | .ifnonnull off => n = 3 ∧ (match st with
    | v :: r => (match ab_rv v with
      | some q => ab_br (¬ q = none) (fun p => K p L r M) pc off
      | none => False)
    | _ => False)
  | .tableswitch dflt lo hi offs => (match st with
    | .int x :: r => hi = lo + (offs.size : Int) - 1 ∧ (x.toInt < lo ∨ hi < x.toInt → ab_jp (fun p => K p L r M) pc dflt) ∧ ab_sw (fun p => K p L r M) pc x lo offs.toList
    | _ => False)
  | .getfield idx => n = 3 ∧ (match st with
    | .ref a :: r => ab_obj M a (fun c => ab_fd own idx c (fun k kd => K (pc + 3) L (ab_gv M a k kd :: r) M))
    | _ => False)
  | .putfield idx => n = 3 ∧ (match st with
    | v :: .ref a :: r => ab_obj M a (fun c => ab_fd own idx c (fun k kd => (ab_fin c k = true → ini = true ∧ (own = c ∨ own = 16)) ∧ ab_pf M a k kd v (fun M' => K (pc + 3) L r M')))
    | _ => False)
  | .iaload => n = 1 ∧ (match st with
    | .int j :: .ref a :: r => (match ab_h M a with
      | some (c, len) => (c = 64 ∨ c = 63) ∧ vp_in j len ∧ K (pc + 1) L (.int (ab_I M a j.toNatClampNeg) :: r) M
      | none => False)
    | _ => False)
  | .baload => n = 1 ∧ (match st with
    | .int j :: .ref a :: r => (match ab_h M a with
      | some (c, len) => (c = 65 ∨ c = 67) ∧ vp_in j len ∧ K (pc + 1) L (.int (ab_I M a j.toNatClampNeg) :: r) M
      | none => False)
    | _ => False)
  | .saload => n = 1 ∧ (match st with
    | .int j :: .ref a :: r => ab_arr M a 2 (fun len => vp_in j len ∧ K (pc + 1) L (.int (ab_I M a j.toNatClampNeg) :: r) M)
    | _ => False)
  | .laload => n = 1 ∧ (match st with
    | .int j :: .ref a :: r => ab_arr M a 4 (fun len => vp_in j len ∧ K (pc + 1) L (.long (ab_L M a j.toNatClampNeg) :: r) M)
    | _ => False)
  | .aaload => n = 1 ∧ (match st with
    | .int j :: .ref a :: r => (match ab_h M a with
      | some (c, len) => (69 ≤ c ∧ c ≤ 72) ∧ vp_in j len ∧ K (pc + 1) L (va_rf (ab_R M a j.toNatClampNeg) :: r) M
      | none => False)
    | _ => False)
  | .iastore => n = 1 ∧ (match st with
    | .int x :: .int j :: .ref a :: r => ab_arr M a 0 (fun len => vp_in j len ∧ K (pc + 1) L r (ab_wI M a j.toNatClampNeg x))
    | _ => False)
  | .bastore => n = 1 ∧ (match st with
    | .int x :: .int j :: .ref a :: r => (match ab_h M a with
      | some (c, len) => if c = 65 then vp_in j len ∧ K (pc + 1) L r (ab_wI M a j.toNatClampNeg x.toInt8.toInt32) else c = 67 ∧ (x = 0 ∨ x = 1) ∧ vp_in j len ∧ K (pc + 1) L r (ab_wI M a j.toNatClampNeg x)
      | none => False)
    | _ => False)
  | .sastore => n = 1 ∧ (match st with
    | .int x :: .int j :: .ref a :: r => ab_arr M a 2 (fun len => vp_in j len ∧ K (pc + 1) L r (ab_wI M a j.toNatClampNeg x.toInt16.toInt32))
    | _ => False)
  | .lastore => n = 1 ∧ (match st with
    | .long x :: .int j :: .ref a :: r => ab_arr M a 4 (fun len => vp_in j len ∧ K (pc + 1) L r (ab_wL M a j.toNatClampNeg x))
    | _ => False)
  | .aastore => n = 1 ∧ (match st with
    | .ref b :: .int j :: .ref a :: r => (match ab_h M a, ab_h M b with
      | some (c, len), some (cb, _) => ab_can (c - 64) cb = true ∧ 64 ≤ c ∧ vp_in j len ∧ K (pc + 1) L r (ab_wR M a j.toNatClampNeg (some b))
      | _, _ => False)
    | _ => False)
  | .arraylength => n = 1 ∧ (match st with
    | .ref a :: r => (match ab_h M a with
      | some (c, len) => (63 ≤ c ∧ c ≤ 72) ∧ K (pc + 1) L (.int (Int32.ofNat len) :: r) M
      | none => False)
    | _ => False)
  | .newarray t => n = 2 ∧ (match st with
    | .int x :: r => (match ab_atT t with
      | some k => ¬ x < 0 ∧ x.toNatClampNeg ≤ 10000 ∧ K (pc + 2) L (.ref (ab_z M) :: r) (ab_nw M (64 + k) x.toNatClampNeg)
      | none => False)
    | _ => False)
  | .anewarray idx => n = 3 ∧ (match st with
    | .int x :: r => (match ab_na own idx with
      | some k => ¬ x < 0 ∧ x.toNatClampNeg ≤ 10000 ∧ K (pc + 3) L (.ref (ab_z M) :: r) (ab_nw M (64 + k) x.toNatClampNeg)
      | none => False)
    | _ => False)
  | .new idx => n = 3 ∧ (match ab_nc own idx with
    | some c => K (pc + 3) L (.ref (ab_z M) :: st) (ab_nw M c (ab_nf c))
    | none => False)
  | .checkcast idx => n = 3 ∧ (match st with
    | v :: r => (match ab_ct own idx with
      | some t => (v = .null ∨ ab_cast M t v = some true) ∧ K (pc + 3) L (v :: r) M
      | none => False)
    | _ => False)
  | .instanceof idx => n = 3 ∧ (match st with
    | v :: r => (match ab_ct own idx with
      | some t => (match ab_cast M t v with
        | some b => t < 3 ∧ K (pc + 3) L (.int (if b then 1 else 0) :: r) M
        | none => False)
      | none => False)
    | _ => False)
  | .invokestatic idx => n = 3 ∧ (match ab_ls own idx, ab_ln own idx with
    | some mid, some na => na ≤ st.length ∧ ab_call C mid (st.take na).reverse (st.drop na) M (fun st' M' => K (pc + 3) L st' M')
    | _, _ => (ab_lc own idx = some 0 ∧ (match st with
      | .int len :: .int dp :: .ref a :: .int sp :: .ref b :: r => ab_sz r ≤ 8 ∧ ¬ sp < 0 ∧ ¬ dp < 0 ∧ ¬ len < 0 ∧ (match ab_h M b, ab_h M a with
        | some (c0, n0), some (c1, n1) => sp.toNatClampNeg + len.toNatClampNeg ≤ n0 ∧ dp.toNatClampNeg + len.toNatClampNeg ≤ n1 ∧ c0 = c1 ∧
          (if c0 = 64 then K (pc + 3) L r (ab_rI M a (va_cpy (ab_I M b) (ab_I M a) sp.toNatClampNeg dp.toNatClampNeg len.toNatClampNeg))
           else c0 = 68 ∧ K (pc + 3) L r (ab_rL M a (va_cpy (ab_L M b) (ab_L M a) sp.toNatClampNeg dp.toNatClampNeg len.toNatClampNeg)))
        | _, _ => False)
      | _ => False)))
  | .invokespecial idx => n = 3 ∧ (match ab_li own idx, ab_ln own idx with
    | some mid, some na => (match st.drop na with
      | .ref a :: r => na ≤ st.length ∧ ab_call C mid (.ref a :: (st.take na).reverse) r M (fun st' M' => K (pc + 3) L st' M')
      | _ => False)
    | _, _ => ab_lo own idx = some 0 ∧ (match st with
      | .ref _ :: r => ab_sz r ≤ 8 ∧ K (pc + 3) L r M
      | _ => False))
  | .invokevirtual idx => n = 3 ∧ (match ab_ln own idx with
    | some na => (match st.drop na with
      | .ref a :: r => (match ab_h M a with
        | some (c, _) => c < 63 ∧ (match ab_lv own idx c with
          | some mid => na ≤ st.length ∧ ab_call C mid (.ref a :: (st.take na).reverse) r M (fun st' M' => K (pc + 3) L st' M')
          | none => False)
        | none => (1 ≤ a ∧ a < 26) ∧ (match ab_lt own idx with
          | some mid => na ≤ st.length ∧ ab_call C mid (.ref a :: (st.take na).reverse) r M (fun st' M' => K (pc + 3) L st' M')
          | none => False))
      | _ => False)
    | none => False)
  | .ireturn => n = 1 ∧ (match st with
    | [.int x] => Q (some (.int x)) M
    | _ => False)
  | .lreturn => n = 1 ∧ (match st with
    | [.long x] => Q (some (.long x)) M
    | _ => False)
  | .areturn => n = 1 ∧ (match st with
    | [v] => (ab_rv v).isSome = true ∧ Q (some v) M
    | _ => False)
  | .return_ => n = 1 ∧ (match st with
    | [] => Q none M
    | _ => False)
  | _ => False
