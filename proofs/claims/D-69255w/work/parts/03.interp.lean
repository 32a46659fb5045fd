set_option maxRecDepth 100000
/-! THE INTERPRETER (operations on bits are closed words, so that no check of a definition opens them). A state is ONE function: S f r i (f: a field's or an array class's number, r: an object's number, i: an index, 0 for a field); S 0 r 0: r's class, S 1 r 0: an array's length,
S 2 0 0: how many objects were made, S 3 0 0: slots, S 4 0 j: the script, S 5 0 0: its length. A word: (tag, value): 0 int, 1 long, 2 null, 3 a String constant by its number, 4 the script, 5 an exception that was caught, from 10 on a reference of that class.
An answer: .inl what is returned, .inr the class that is thrown; none: anything that is not covered. -/
def up (S : St) (f : Nat) (r i v : Int) : St := fun g a j => if g = f ∧ a = r ∧ j = i then v else S g a j
def al (S : St) (k : Nat) (len u : Int) : St := fun g a j =>
  if g = 2 ∧ a = 0 ∧ j = 0 then S 2 0 0 + 1 else if g = 3 ∧ a = 0 ∧ j = 0 then S 3 0 0 + u else if a = S 2 0 0 + 1 ∧ blg k g = true then (if g = 0 then (k : Int) else if g = 1 then len else 0) else S g a j
def cp (S : St) (c : Nat) (r sp : Int) (e : Nat) (d dp n : Int) : St := fun g a i => if g = e ∧ a = d ∧ dp ≤ i ∧ i < dp + n then S c r (sp + (i - dp)) else S g a i
def w32 (x : Int) : Int := Int.bmod x 4294967296
def w64 (x : Int) : Int := Int.bmod x 18446744073709551616
theorem bo_ex (f : Int → Int → Int) : ∃ g : Int → Int → Int, g = f := ⟨f, rfl⟩
noncomputable def i_and : Int → Int → Int := Classical.choose (bo_ex fun a b => (Int32.ofInt a &&& Int32.ofInt b).toInt)
theorem i_and_e (a b : Int) : i_and a b = (Int32.ofInt a &&& Int32.ofInt b).toInt := congrFun (congrFun (Classical.choose_spec (bo_ex fun a b => (Int32.ofInt a &&& Int32.ofInt b).toInt)) a) b
noncomputable def i_or : Int → Int → Int := Classical.choose (bo_ex fun a b => (Int32.ofInt a ||| Int32.ofInt b).toInt)
theorem i_or_e (a b : Int) : i_or a b = (Int32.ofInt a ||| Int32.ofInt b).toInt := congrFun (congrFun (Classical.choose_spec (bo_ex fun a b => (Int32.ofInt a ||| Int32.ofInt b).toInt)) a) b
noncomputable def i_xor : Int → Int → Int := Classical.choose (bo_ex fun a b => (Int32.ofInt a ^^^ Int32.ofInt b).toInt)
theorem i_xor_e (a b : Int) : i_xor a b = (Int32.ofInt a ^^^ Int32.ofInt b).toInt := congrFun (congrFun (Classical.choose_spec (bo_ex fun a b => (Int32.ofInt a ^^^ Int32.ofInt b).toInt)) a) b
noncomputable def i_shl : Int → Int → Int := Classical.choose (bo_ex fun a b => (Int32.ofInt a <<< (Int32.ofInt b &&& 31)).toInt)
theorem i_shl_e (a b : Int) : i_shl a b = (Int32.ofInt a <<< (Int32.ofInt b &&& 31)).toInt := congrFun (congrFun (Classical.choose_spec (bo_ex fun a b => (Int32.ofInt a <<< (Int32.ofInt b &&& 31)).toInt)) a) b
noncomputable def i_shr : Int → Int → Int := Classical.choose (bo_ex fun a b => (Int32.ofInt a >>> (Int32.ofInt b &&& 31)).toInt)
theorem i_shr_e (a b : Int) : i_shr a b = (Int32.ofInt a >>> (Int32.ofInt b &&& 31)).toInt := congrFun (congrFun (Classical.choose_spec (bo_ex fun a b => (Int32.ofInt a >>> (Int32.ofInt b &&& 31)).toInt)) a) b
noncomputable def i_ushr : Int → Int → Int := Classical.choose (bo_ex fun a b => ((Int32.ofInt a).toUInt32 >>> ((Int32.ofInt b).toUInt32 &&& Int32.toUInt32 31)).toInt32.toInt)
theorem i_ushr_e (a b : Int) : i_ushr a b = ((Int32.ofInt a).toUInt32 >>> ((Int32.ofInt b).toUInt32 &&& Int32.toUInt32 31)).toInt32.toInt := congrFun (congrFun (Classical.choose_spec (bo_ex fun a b => ((Int32.ofInt a).toUInt32 >>> ((Int32.ofInt b).toUInt32 &&& Int32.toUInt32 31)).toInt32.toInt)) a) b
noncomputable def l_and : Int → Int → Int := Classical.choose (bo_ex fun a b => (Int64.ofInt a &&& Int64.ofInt b).toInt)
theorem l_and_e (a b : Int) : l_and a b = (Int64.ofInt a &&& Int64.ofInt b).toInt := congrFun (congrFun (Classical.choose_spec (bo_ex fun a b => (Int64.ofInt a &&& Int64.ofInt b).toInt)) a) b
noncomputable def l_or : Int → Int → Int := Classical.choose (bo_ex fun a b => (Int64.ofInt a ||| Int64.ofInt b).toInt)
theorem l_or_e (a b : Int) : l_or a b = (Int64.ofInt a ||| Int64.ofInt b).toInt := congrFun (congrFun (Classical.choose_spec (bo_ex fun a b => (Int64.ofInt a ||| Int64.ofInt b).toInt)) a) b
noncomputable def l_xor : Int → Int → Int := Classical.choose (bo_ex fun a b => (Int64.ofInt a ^^^ Int64.ofInt b).toInt)
theorem l_xor_e (a b : Int) : l_xor a b = (Int64.ofInt a ^^^ Int64.ofInt b).toInt := congrFun (congrFun (Classical.choose_spec (bo_ex fun a b => (Int64.ofInt a ^^^ Int64.ofInt b).toInt)) a) b
noncomputable def l_shl : Int → Int → Int := Classical.choose (bo_ex fun a b => (Int64.ofInt a <<< ((Int32.ofInt b).toInt64 &&& 63)).toInt)
theorem l_shl_e (a b : Int) : l_shl a b = (Int64.ofInt a <<< ((Int32.ofInt b).toInt64 &&& 63)).toInt := congrFun (congrFun (Classical.choose_spec (bo_ex fun a b => (Int64.ofInt a <<< ((Int32.ofInt b).toInt64 &&& 63)).toInt)) a) b
noncomputable def l_shr : Int → Int → Int := Classical.choose (bo_ex fun a b => (Int64.ofInt a >>> ((Int32.ofInt b).toInt64 &&& 63)).toInt)
theorem l_shr_e (a b : Int) : l_shr a b = (Int64.ofInt a >>> ((Int32.ofInt b).toInt64 &&& 63)).toInt := congrFun (congrFun (Classical.choose_spec (bo_ex fun a b => (Int64.ofInt a >>> ((Int32.ofInt b).toInt64 &&& 63)).toInt)) a) b
noncomputable def l_ushr : Int → Int → Int := Classical.choose (bo_ex fun a b => ((Int64.ofInt a).toUInt64 >>> ((Int32.ofInt b).toInt64.toUInt64 &&& Int64.toUInt64 63)).toInt64.toInt)
theorem l_ushr_e (a b : Int) : l_ushr a b = ((Int64.ofInt a).toUInt64 >>> ((Int32.ofInt b).toInt64.toUInt64 &&& Int64.toUInt64 63)).toInt64.toInt := congrFun (congrFun (Classical.choose_spec (bo_ex fun a b => ((Int64.ofInt a).toUInt64 >>> ((Int32.ofInt b).toInt64.toUInt64 &&& Int64.toUInt64 63)).toInt64.toInt)) a) b
def l_cmp (a b : Int) : Int := if a < b then -1 else if a = b then 0 else 1
def p1 (t : Nat) (st : List Wd) (k : Int → List Wd → Rs) : Rs := match st with
  | [] => none
  | w :: s => cond (Nat.beq w.1 t) (k w.2 s) none
/-- a reference -/
def pr (st : List Wd) (k : Nat → Int → List Wd → Rs) : Rs := match st with
  | [] => none
  | w :: s => cond (Nat.ble 2 w.1) (k w.1 w.2 s) none
/-- any word of one slot -/
def pa (st : List Wd) (k : Wd → List Wd → Rs) : Rs := match st with
  | [] => none
  | w :: s => cond (Nat.beq w.1 1) none (k w s)
def lg_ (lv : Lv) (i : Nat) : Option Wd := match lv with
  | [] => none
  | q :: r => cond (Nat.beq q.1 i) (some q.2) (lg_ r i)
def pl (t i : Nat) (lv : Lv) (k : Int → Rs) : Rs := match lg_ lv i with
  | none => none
  | some w => cond (Nat.beq w.1 t) (k w.2) none
def plr (i : Nat) (lv : Lv) (k : Nat → Int → Rs) : Rs := match lg_ lv i with
  | none => none
  | some w => cond (Nat.ble 2 w.1) (k w.1 w.2) none
def ls1 (lv : Lv) (i : Nat) (w : Wd) : Lv := (i, w) :: lv.filter (fun q => !(Nat.beq q.1 i) && !(Nat.beq (q.1 + 1) i && Nat.beq q.2.1 1))
def ls2 (lv : Lv) (i : Nat) (w : Wd) : Lv := (i, w) :: lv.filter (fun q => !(Nat.beq q.1 i) && (!(Nat.beq q.1 (i + 1)) && !(Nat.beq (q.1 + 1) i && Nat.beq q.2.1 1)))
def pn (n : Nat) (acc st : List Wd) (k : List Wd → List Wd → Rs) : Rs := match n, st with
  | 0, st => k acc st
  | _ + 1, [] => none
  | n + 1, w :: s => pn n (w :: acc) s k
def lva (i : Nat) (as : List Wd) : Lv := match as with
  | [] => []
  | w :: r => (i, w) :: lva (cond (Nat.beq w.1 1) (i + 2) (i + 1)) r
/-- a call's answer: it returned, or it threw -/
def bd (r : Rs) (k h : Int → St → Rs) : Rs := match r with
  | none => none
  | some (.inl v, S) => k v S
  | some (.inr x, S) => h x S
def cl (r : Rs) (k : Int → St → Rs) : Rs := bd r k (fun x S => some (.inr x, S))
def pv (t : Nat) (v : Int) (s : List Wd) : List Wd := cond (Nat.beq t 9) s ((t, v) :: s)
def swc (a lo : Int) (tg : List Nat) (k : Nat → Rs) (d : Rs) : Rs := match tg with
  | [] => d
  | t :: r => if a = lo then k t else swc a (lo + 1) r k d
def vsw (kd : Int) (l : List (Int × Nat)) (k : Nat → Rs) : Rs := match l with
  | [] => none
  | q :: r => if kd = q.1 then k q.2 else vsw kd r k
def ck (b : Bool) (r : Rs) : Rs := cond b r none
def nz (a : Int) (r : Rs) : Rs := if a = 0 then none else r
def eqr (a b : Int) (r : Rs) : Rs := if a = b then r else none
/-- in range -/
def ib (i l : Int) (r : Rs) : Rs := if 0 ≤ i ∧ i < l then r else none
/-- a truth value -/
def tv (v : Int) (r : Rs) : Rs := if v = 0 ∨ v = 1 then r else none
def cko {α : Type} (o : Option α) (k : α → Rs) : Rs := match o with
  | none => none
  | some a => k a
/-- a name for a value, so that texts stay small -/
def lt_ {α : Type} (a : α) (k : α → Rs) : Rs := k a
/-- a tag goes where another one is declared -/
def sb (t' t : Nat) : Bool := Nat.beq t t' || (Nat.ble 10 t' && (Nat.beq t 2 || (Nat.ble 10 t && sbc t' t)))
def coL (ts : List Nat) (ws : List Wd) : Option (List Wd) := match ts, ws with
  | [], [] => some []
  | t :: ts, w :: ws => cond (sb t w.1) (match coL ts ws with
    | none => none
    | some r => some ((t, w.2) :: r)) none
  | _, _ => none
def pkl (ls : List (Nat × Nat)) (lv : Lv) : Option Lv := match ls with
  | [] => some []
  | q :: r => match lg_ lv q.1, pkl r lv with
    | some w, some l => cond (sb q.2 w.1) (some ((q.1, q.2, w.2) :: l)) none
    | _, _ => none
def aln (c : Nat) (r : Int) (S : St) : Int := match alc c with
  | some l => l
  | none => S 1 r 0
/-- a thrown class: into the method's own handler, or out -/
def hdl (mi i : Nat) (lv : Lv) (k : Nat → Lv → List Wd → St → Rs) (x : Int) (S : St) : Rs := match hnd mi i with
  | none => some (.inr x, S)
  | some q => eqr x q.1 (k q.2 lv [(5, 0)] S)
/-- the receiver: not null, or the one object that there is of its class -/
def rcv (z : Int) (as : List Wd) (k : List Wd → Rs) : Rs := match as with
  | [] => none
  | w :: r => if z = 0 then nz w.2 (k (w :: r)) else eqr w.2 z (k ((w.1, z) :: r))
def gtf (tg : List Nat) (a : Rs) (b : Nat → Rs) : Rs := match tg with
  | [] => a
  | j :: _ => b j
def alm (o : Option Int) (a : Int) (r : Rs) : Rs := match o with
  | some l => eqr a l r
  | none => r
def hd1 (as : List Wd) (k : Wd → List Wd → Rs) : Rs := match as with
  | [] => none
  | w :: r => k w r
def ali (ph : Bool) (z r : Int) (a : Rs) : Rs := if 2 ≤ z ∧ ph = true then (if N0 < r then a else none) else a
/-- the receiver's tag, where another class spells the method -/
def hdc (tg : List Nat) (as : List Wd) : Bool := match tg with
  | [] => true
  | D :: _ => match as with
    | [] => false
    | w :: _ => sb D w.1
/-- ONE INSTRUCTION: k goes on in the method, cg calls another one -/
noncomputable def stp (ph : Bool) (cg : Nat → List Wd → St → Rs) (k : Nat → Lv → List Wd → St → Rs) (mi i : Nat) (lv : Lv) (st : List Wd) (S : St) : Rs := match cod mi i with
  | none => none
  | some (_, ins, x, y, t, z, tg) => match ins with
    | .iconst _ => k (i + 1) lv ((0, z) :: st) S
    | .bipush _ => k (i + 1) lv ((0, z) :: st) S
    | .sipush _ => k (i + 1) lv ((0, z) :: st) S
    | .ldc _ => k (i + 1) lv ((t, z) :: st) S
    | .ldc_w _ => k (i + 1) lv ((t, z) :: st) S
    | .ldc2_w _ => k (i + 1) lv ((1, z) :: st) S
    | .lconst _ => k (i + 1) lv ((1, z) :: st) S
    | .aconst_null => k (i + 1) lv ((2, 0) :: st) S
    | .iload_n n => pl 0 n.val lv fun a => k (i + 1) lv ((0, a) :: st) S
    | .iload n => pl 0 n lv fun a => k (i + 1) lv ((0, a) :: st) S
    | .lload_n n => pl 1 n.val lv fun a => k (i + 1) lv ((1, a) :: st) S
    | .lload n => pl 1 n lv fun a => k (i + 1) lv ((1, a) :: st) S
    | .aload_n n => plr n.val lv fun g a => k (i + 1) lv ((g, a) :: st) S
    | .aload n => plr n lv fun g a => k (i + 1) lv ((g, a) :: st) S
    | .istore_n n => p1 0 st fun a s => lt_ a fun a => k (i + 1) (ls1 lv n.val (0, a)) s S
    | .istore n => p1 0 st fun a s => lt_ a fun a => k (i + 1) (ls1 lv n (0, a)) s S
    | .lstore_n n => p1 1 st fun a s => lt_ a fun a => k (i + 1) (ls2 lv n.val (1, a)) s S
    | .lstore n => p1 1 st fun a s => lt_ a fun a => k (i + 1) (ls2 lv n (1, a)) s S
    | .astore_n n => pr st fun g a s => lt_ a fun a => k (i + 1) (ls1 lv n.val (g, a)) s S
    | .astore n => pr st fun g a s => lt_ a fun a => k (i + 1) (ls1 lv n (g, a)) s S
    | .iinc n c => pl 0 n lv fun a => lt_ (w32 (a + c)) fun a => k (i + 1) (ls1 lv n (0, a)) st S
    | .dup => pa st fun w s => k (i + 1) lv (w :: w :: s) S
    | .dup_x1 => pa st fun w s => pa s fun v s => k (i + 1) lv (w :: v :: w :: s) S
    | .dup2 => pa st fun w s => pa s fun v s => k (i + 1) lv (w :: v :: w :: v :: s) S
    | .pop => pa st fun _ s => k (i + 1) lv s S
    | .iadd => p1 0 st fun b s => p1 0 s fun a s => k (i + 1) lv ((0, w32 (a + b)) :: s) S
    | .isub => p1 0 st fun b s => p1 0 s fun a s => k (i + 1) lv ((0, w32 (a - b)) :: s) S
    | .imul => p1 0 st fun b s => p1 0 s fun a s => k (i + 1) lv ((0, w32 (a * b)) :: s) S
    | .idiv => p1 0 st fun b s => p1 0 s fun a s => nz b (k (i + 1) lv ((0, w32 (Int.tdiv a b)) :: s) S)
    | .irem => p1 0 st fun b s => p1 0 s fun a s => nz b (k (i + 1) lv ((0, Int.tmod a b) :: s) S)
    | .ineg => p1 0 st fun a s => k (i + 1) lv ((0, w32 (-a)) :: s) S
    | .iand => p1 0 st fun b s => p1 0 s fun a s => k (i + 1) lv ((0, i_and a b) :: s) S
    | .ior => p1 0 st fun b s => p1 0 s fun a s => k (i + 1) lv ((0, i_or a b) :: s) S
    | .ixor => p1 0 st fun b s => p1 0 s fun a s => k (i + 1) lv ((0, i_xor a b) :: s) S
    | .ishl => p1 0 st fun b s => p1 0 s fun a s => k (i + 1) lv ((0, i_shl a b) :: s) S
    | .ishr => p1 0 st fun b s => p1 0 s fun a s => k (i + 1) lv ((0, i_shr a b) :: s) S
    | .iushr => p1 0 st fun b s => p1 0 s fun a s => k (i + 1) lv ((0, i_ushr a b) :: s) S
    | .ladd => p1 1 st fun b s => p1 1 s fun a s => k (i + 1) lv ((1, w64 (a + b)) :: s) S
    | .lsub => p1 1 st fun b s => p1 1 s fun a s => k (i + 1) lv ((1, w64 (a - b)) :: s) S
    | .lmul => p1 1 st fun b s => p1 1 s fun a s => k (i + 1) lv ((1, w64 (a * b)) :: s) S
    | .ldiv => p1 1 st fun b s => p1 1 s fun a s => nz b (k (i + 1) lv ((1, w64 (Int.tdiv a b)) :: s) S)
    | .lrem => p1 1 st fun b s => p1 1 s fun a s => nz b (k (i + 1) lv ((1, Int.tmod a b) :: s) S)
    | .lneg => p1 1 st fun a s => k (i + 1) lv ((1, w64 (-a)) :: s) S
    | .land => p1 1 st fun b s => p1 1 s fun a s => k (i + 1) lv ((1, l_and a b) :: s) S
    | .lor => p1 1 st fun b s => p1 1 s fun a s => k (i + 1) lv ((1, l_or a b) :: s) S
    | .lxor => p1 1 st fun b s => p1 1 s fun a s => k (i + 1) lv ((1, l_xor a b) :: s) S
    | .lshl => p1 0 st fun b s => p1 1 s fun a s => k (i + 1) lv ((1, l_shl a b) :: s) S
    | .lshr => p1 0 st fun b s => p1 1 s fun a s => k (i + 1) lv ((1, l_shr a b) :: s) S
    | .lushr => p1 0 st fun b s => p1 1 s fun a s => k (i + 1) lv ((1, l_ushr a b) :: s) S
    | .lcmp => p1 1 st fun b s => p1 1 s fun a s => k (i + 1) lv ((0, l_cmp a b) :: s) S
    | .i2l => p1 0 st fun a s => k (i + 1) lv ((1, a) :: s) S
    | .l2i => p1 1 st fun a s => k (i + 1) lv ((0, w32 a) :: s) S
    | .i2b => p1 0 st fun a s => k (i + 1) lv ((0, Int.bmod a 256) :: s) S
    | .goto _ => k x lv st S
    | .ifCond .eq _ => p1 0 st fun a s => if a = 0 then k x lv s S else k (i + 1) lv s S
    | .ifCond .ne _ => p1 0 st fun a s => if a = 0 then k (i + 1) lv s S else k x lv s S
    | .ifCond .lt _ => p1 0 st fun a s => if a < 0 then k x lv s S else k (i + 1) lv s S
    | .ifCond .ge _ => p1 0 st fun a s => if a < 0 then k (i + 1) lv s S else k x lv s S
    | .ifCond .gt _ => p1 0 st fun a s => if 0 < a then k x lv s S else k (i + 1) lv s S
    | .ifCond .le _ => p1 0 st fun a s => if 0 < a then k (i + 1) lv s S else k x lv s S
    | .if_icmp .eq _ => p1 0 st fun b s => p1 0 s fun a s => if a = b then k x lv s S else k (i + 1) lv s S
    | .if_icmp .ne _ => p1 0 st fun b s => p1 0 s fun a s => if a = b then k (i + 1) lv s S else k x lv s S
    | .if_icmp .lt _ => p1 0 st fun b s => p1 0 s fun a s => if a < b then k x lv s S else k (i + 1) lv s S
    | .if_icmp .ge _ => p1 0 st fun b s => p1 0 s fun a s => if a < b then k (i + 1) lv s S else k x lv s S
    | .if_icmp .gt _ => p1 0 st fun b s => p1 0 s fun a s => if b < a then k x lv s S else k (i + 1) lv s S
    | .if_icmp .le _ => p1 0 st fun b s => p1 0 s fun a s => if b < a then k (i + 1) lv s S else k x lv s S
    | .if_acmp .eq _ => pr st fun g b s => pr s fun h a s => ck (Nat.ble 10 g && Nat.ble 10 h) (if a = b then k x lv s S else k (i + 1) lv s S)
    | .if_acmp .ne _ => pr st fun g b s => pr s fun h a s => ck (Nat.ble 10 g && Nat.ble 10 h) (if a = b then k (i + 1) lv s S else k x lv s S)
    | .ifnull _ => pr st fun g a s => ck (Nat.ble 10 g) (if a = 0 then k x lv s S else k (i + 1) lv s S)
    | .ifnonnull _ => pr st fun g a s => ck (Nat.ble 10 g) (if a = 0 then k (i + 1) lv s S else k x lv s S)
    | .tableswitch _ lo _ _ => p1 0 st fun a s => swc a lo tg (fun j => k j lv s S) (k x lv s S)
    | .getfield _ => pr st fun g r s => ck (Nat.ble 10 g && sb x g) (gtf tg (nz r (k (i + 1) lv ((t, S y r 0) :: s) S)) fun j => ck ph (cko (pt j) fun q => ck (Nat.beq q.1 y) (eqr r q.2.1 (k (i + 1) lv ((t, q.2.2) :: s) S))))
    | .putfield _ => cond (Nat.beq t 0)
        (p1 0 st fun v s => pr s fun g r s => ck (Nat.ble 10 g && sb x g) (nz r (ali ph z r (cond (Nat.beq (z.toNat % 2) 1) (tv v (lt_ (up S y r 0 v) fun S => k (i + 1) lv s S)) (lt_ (up S y r 0 v) fun S => k (i + 1) lv s S)))))
        (cond (Nat.beq t 1)
          (p1 1 st fun v s => pr s fun g r s => ck (Nat.ble 10 g && sb x g) (nz r (ali ph z r (lt_ (up S y r 0 v) fun S => k (i + 1) lv s S))))
          (pr st fun h v s => pr s fun g r s => ck (Nat.ble 10 g && (sb x g && sb t h)) (nz r (ali ph z r (lt_ (up S y r 0 v) fun S => k (i + 1) lv s S)))))
    | .arraylength => pr st fun g r s => cond (Nat.beq g 4) (ck ph (k (i + 1) lv ((0, S 5 0 0) :: s) S)) (ck (Nat.blt (akd g) 5) (nz r (k (i + 1) lv ((0, aln g r S) :: s) S)))
    | .iaload => p1 0 st fun j s => pr s fun g r s => cond (Nat.beq g 4) (ck ph (ib j (S 5 0 0) (k (i + 1) lv ((0, S 4 0 j) :: s) S))) (ck (Nat.beq (akd g) 0) (nz r (ib j (aln g r S) (k (i + 1) lv ((0, S g r j) :: s) S))))
    | .baload => p1 0 st fun j s => pr s fun g r s => ck (Nat.beq (akd g) 1 || Nat.beq (akd g) 2) (nz r (ib j (aln g r S) (k (i + 1) lv ((0, S g r j) :: s) S)))
    | .laload => p1 0 st fun j s => pr s fun g r s => ck (Nat.beq (akd g) 3) (nz r (ib j (aln g r S) (k (i + 1) lv ((1, S g r j) :: s) S)))
    | .aaload => p1 0 st fun j s => pr s fun g r s => ck (Nat.beq (akd g) 4) (nz r (ib j (aln g r S) (k (i + 1) lv ((ael g, S g r j) :: s) S)))
    | .iastore => p1 0 st fun v s => p1 0 s fun j s => pr s fun g r s => ck (Nat.beq g x && Nat.beq (akd x) 0) (nz r (ib j (aln x r S) (lt_ (up S x r j v) fun S => k (i + 1) lv s S)))
    | .bastore => p1 0 st fun v s => p1 0 s fun j s => pr s fun g r s => ck (Nat.beq g x) (nz r (ib j (aln x r S) (cond (Nat.beq (akd x) 1) (lt_ (up S x r j (Int.bmod v 256)) fun S => k (i + 1) lv s S) (ck (Nat.beq (akd x) 2) (tv v (lt_ (up S x r j v) fun S => k (i + 1) lv s S))))))
    | .lastore => p1 1 st fun v s => p1 0 s fun j s => pr s fun g r s => ck (Nat.beq g x && Nat.beq (akd x) 3) (nz r (ib j (aln x r S) (lt_ (up S x r j v) fun S => k (i + 1) lv s S)))
    | .aastore => pr st fun h v s => p1 0 s fun j s => pr s fun g r s => ck (Nat.beq g x && (Nat.beq (akd x) 4 && sb (ael x) h)) (nz r (ib j (aln x r S) (lt_ (up S x r j v) fun S => k (i + 1) lv s S)))
    | .new _ => cond (Nat.beq x 53 || Nat.beq x 54) (ck (Nat.ble st.length 12) (some (.inr (x : Int), al S x 0 6))) (ck (Nat.blt x 70) (lt_ (S 2 0 0 + 1) fun r => lt_ (al S x 0 (y : Int)) fun S => k (i + 1) lv ((x, r) :: st) S))
    | .newarray _ => p1 0 st fun a s => ck (Nat.blt (akd x) 4) (ib a 100000 (alm (alc x) a (lt_ (S 2 0 0 + 1) fun r => lt_ (al S x a a) fun S => k (i + 1) lv ((x, r) :: s) S)))
    | .anewarray _ => p1 0 st fun a s => ck (Nat.beq (akd x) 4 && Nat.beq (ael x) y) (ib a 100000 (alm (alc x) a (lt_ (S 2 0 0 + 1) fun r => lt_ (al S x a a) fun S => k (i + 1) lv ((x, r) :: s) S)))
    | .checkcast _ => pr st fun g r s => ck (Nat.ble 10 g && Nat.blt g 70) (cond (sb x g) (k (i + 1) lv ((x, r) :: s) S) (if r = 0 ∨ isk x (S 0 r 0) = true then k (i + 1) lv ((x, r) :: s) S else none))
    | .instanceof _ => pr st fun g r s => ck (Nat.beq g 22) (if r ≠ 0 ∧ isk x (S 0 r 0) = true then k (i + 1) lv ((0, 1) :: s) S else k (i + 1) lv ((0, 0) :: s) S)
    | .invokestatic _ => cond (Nat.blt y 100)
        (pn y [] st fun as s => ck (Nat.ble s.length 12) (cko (coL (prm x) as) fun as => bd (cg x as S) (fun v S => k (i + 1) lv (pv t v s) S) (hdl mi i lv k)))
        (p1 0 st fun n s => p1 0 s fun dp s => pr s fun h d s => p1 0 s fun sp s => pr s fun g r s => ck (Nat.ble s.length 12 && (Nat.beq h x && (Nat.beq (akd g) (akd x) && (Nat.beq (akd x) 1 || (Nat.beq (akd x) 4 && Nat.beq g x))))) (nz d (nz r (if 0 ≤ n ∧ 0 ≤ sp ∧ sp + n ≤ aln g r S ∧ 0 ≤ dp ∧ dp + n ≤ aln x d S then lt_ (cp S g r sp x d dp n) fun S => k (i + 1) lv s S else none))))
    | .invokespecial _ => cond (Nat.blt y 100)
        (pn y [] st fun as s => ck (Nat.ble s.length 12) (rcv z as fun as => cko (coL (prm x) as) fun as => bd (cg x as S) (fun v S => k (i + 1) lv (pv t v s) S) (hdl mi i lv k)))
        (ck (Nat.blt y 400) (pr st fun g r s => ck (Nat.ble 10 g && (Nat.blt g 70 && Nat.ble s.length 12)) (nz r (k (i + 1) lv s S))))
    | .invokevirtual _ => cond (Nat.blt y 100)
        (pn y [] st fun as s => ck (Nat.ble s.length 12 && hdc tg as) (rcv z as fun as => cko (coL (prm x) as) fun as => bd (cg x as S) (fun v S => k (i + 1) lv (pv t v s) S) (hdl mi i lv k)))
        (cond (Nat.blt y 200)
          (pn (y - 100) [] st fun as s => ck (Nat.ble s.length 12) (hd1 as fun w as => ck (sb (vcl x) w.1) (nz w.2 (vsw (S 0 w.2 0) (vt x) fun m => cko (coL (prm m).tail as) fun as => bd (cg m (((prm m).headD 0, w.2) :: as) S) (fun v S => k (i + 1) lv (pv t v s) S) (hdl mi i lv k)))))
          (cond (Nat.blt y 500)
            (p1 3 st fun r s => ck (Nat.ble s.length 12) (cko (txn r.toNat) fun l => k (i + 1) lv ((0, (l.length : Int)) :: s) S))
            (p1 0 st fun j s => p1 3 s fun r s => ck (Nat.ble s.length 12) (cko (txn r.toNat) fun l => ib j (l.length : Int) (k (i + 1) lv ((0, l.getD j.toNat 0) :: s) S)))))
    | .ireturn => p1 0 st fun v s => ck s.isEmpty (cond (Nat.beq t 4) (tv v (some (.inl v, S))) (some (.inl v, S)))
    | .lreturn => p1 1 st fun v s => ck s.isEmpty (some (.inl v, S))
    | .areturn => pr st fun g v s => ck (s.isEmpty && sb t g) (some (.inl v, S))
    | .return_ => ck st.isEmpty (some (.inl 0, S))
    | _ => none
def Le_ (a b : Rs) : Prop := ∀ r, a = some r → b = some r
def Ap_ (a : Rs) (f : Nat → Rs) : Prop := ∀ r, a = some r → ∃ n, f n = some r
/-- at a cut the locals are cut down to those that are needed, with the tags of the cut -/
def msk (k : Lv → List Wd → St → Rs) (mi i : Nat) (lv : Lv) (st : List Wd) (S : St) : Rs := match cut mi i with
  | none => k lv st S
  | some q => cko (pkl q.1 lv) fun lv => cko (coL q.2 st) fun st => k lv st S
def cgf (f : Nat → Nat → List Wd → St → Rs) (d m : Nat) (as : List Wd) (S : St) : Rs := match d with
  | 0 => none
  | d + 1 => f d m as S
theorem le_cgf {f f' : Nat → Nat → List Wd → St → Rs} (h : ∀ d m as S, Le_ (f d m as S) (f' d m as S)) (d m : Nat) (as : List Wd) (S : St) : Le_ (cgf f d m as S) (cgf f' d m as S) := by
  cases d
  · exact fun _ h => h
  · exact h _ _ _ _
theorem ap_cgf {f : Nat → Nat → List Wd → St → Rs} {f' : Nat → Nat → Nat → List Wd → St → Rs} (h : ∀ d m as S, Ap_ (f d m as S) (fun n => f' n d m as S)) (d m : Nat) (as : List Wd) (S : St) : Ap_ (cgf f d m as S) (fun n => cgf (f' n) d m as S) := by
  cases d
  · exact fun _ h => ⟨0, h⟩
  · exact h _ _ _ _
noncomputable def run (ph : Bool) (n : Nat) (d mi i : Nat) (lv : Lv) (st : List Wd) (S : St) : Rs := match n with
  | 0 => none
  | n + 1 => stp ph (cgf (fun d m as S => run ph n d m 0 (lva 0 as) [] S) d) (fun i lv st S => msk (run ph n d mi i) mi i lv st S) mi i lv st S
def Le (a b : Rs) : Prop := ∀ r, a = some r → b = some r
theorem Le.rf (a : Rs) : Le a a := fun _ h => h
theorem Le.no (b : Rs) : Le none b := fun _ h => by cases h
theorem Le.tr {a b c : Rs} (h : Le a b) (g : Le b c) : Le a c := fun r e => g r (h r e)
theorem le_p1 {t : Nat} {st : List Wd} {k k' : Int → List Wd → Rs} (h : ∀ x s, Le (k x s) (k' x s)) : Le (p1 t st k) (p1 t st k') := by
  cases st with
  | nil => exact Le.no _
  | cons w s =>
    simp only [p1]
    cases Nat.beq w.1 t
    · exact Le.no _
    · exact h _ _
theorem le_pr {st : List Wd} {k k' : Nat → Int → List Wd → Rs} (h : ∀ g x s, Le (k g x s) (k' g x s)) : Le (pr st k) (pr st k') := by
  cases st with
  | nil => exact Le.no _
  | cons w s =>
    simp only [pr]
    cases Nat.ble 2 w.1
    · exact Le.no _
    · exact h _ _ _
theorem le_pa {st : List Wd} {k k' : Wd → List Wd → Rs} (h : ∀ x s, Le (k x s) (k' x s)) : Le (pa st k) (pa st k') := by
  cases st with
  | nil => exact Le.no _
  | cons w s =>
    simp only [pa]
    cases Nat.beq w.1 1
    · exact h _ _
    · exact Le.no _
theorem le_pl {t i : Nat} {lv : Lv} {k k' : Int → Rs} (h : ∀ x, Le (k x) (k' x)) : Le (pl t i lv k) (pl t i lv k') := by
  unfold pl
  cases lg_ lv i with
  | none => exact Le.no _
  | some w =>
    simp only
    cases Nat.beq w.1 t
    · exact Le.no _
    · exact h _
theorem le_plr {i : Nat} {lv : Lv} {k k' : Nat → Int → Rs} (h : ∀ g x, Le (k g x) (k' g x)) : Le (plr i lv k) (plr i lv k') := by
  unfold plr
  cases lg_ lv i with
  | none => exact Le.no _
  | some w =>
    simp only
    cases Nat.ble 2 w.1
    · exact Le.no _
    · exact h _ _
theorem le_pn {n : Nat} {k k' : List Wd → List Wd → Rs} (h : ∀ x s, Le (k x s) (k' x s)) : ∀ {acc st : List Wd}, Le (pn n acc st k) (pn n acc st k') := by
  induction n with
  | zero => intro acc st; simp only [pn]; exact h _ _
  | succ n ih =>
    intro acc st
    cases st with
    | nil => exact Le.no _
    | cons w s => simp only [pn]; exact ih
theorem le_ck {b : Bool} {a a' : Rs} (h : Le a a') : Le (ck b a) (ck b a') := by
  cases b
  · exact Le.no _
  · exact h
theorem le_cond {b : Bool} {a a' c c' : Rs} (h : Le a a') (g : Le c c') : Le (cond b a c) (cond b a' c') := by
  cases b
  · exact g
  · exact h
theorem le_ite {c : Prop} [Decidable c] {a a' b b' : Rs} (h : Le a a') (g : Le b b') : Le (if c then a else b) (if c then a' else b') := by
  split
  · exact h
  · exact g
theorem le_nz {x : Int} {a a' : Rs} (h : Le a a') : Le (nz x a) (nz x a') := le_ite (Le.rf _) h
theorem le_eqr {x y : Int} {a a' : Rs} (h : Le a a') : Le (eqr x y a) (eqr x y a') := le_ite h (Le.rf _)
theorem le_ib {x y : Int} {a a' : Rs} (h : Le a a') : Le (ib x y a) (ib x y a') := le_ite h (Le.rf _)
theorem le_tv {x : Int} {a a' : Rs} (h : Le a a') : Le (tv x a) (tv x a') := le_ite h (Le.rf _)
theorem le_ali {ph : Bool} {x y : Int} {a a' : Rs} (h : Le a a') : Le (ali ph x y a) (ali ph x y a') := le_ite (le_ite h (Le.rf _)) h
theorem le_gtf {tg : List Nat} {a a' : Rs} {b b' : Nat → Rs} (h : Le a a') (g : ∀ j, Le (b j) (b' j)) : Le (gtf tg a b) (gtf tg a' b') := by
  cases tg
  · exact h
  · exact g _
theorem le_alm {o : Option Int} {x : Int} {a a' : Rs} (h : Le a a') : Le (alm o x a) (alm o x a') := by
  cases o
  · exact h
  · exact le_eqr h
theorem le_hd1 {as : List Wd} {k k' : Wd → List Wd → Rs} (h : ∀ x s, Le (k x s) (k' x s)) : Le (hd1 as k) (hd1 as k') := by
  cases as
  · exact Le.no _
  · exact h _ _
theorem le_rcv {z : Int} {as : List Wd} {k k' : List Wd → Rs} (h : ∀ x, Le (k x) (k' x)) : Le (rcv z as k) (rcv z as k') := by
  cases as
  · exact Le.no _
  · exact le_ite (le_nz (h _)) (le_eqr (h _))
theorem le_lt {α : Type} {a : α} {k k' : α → Rs} (h : ∀ x, Le (k x) (k' x)) : Le (lt_ a k) (lt_ a k') := h a
theorem le_cko {α : Type} {o : Option α} {k k' : α → Rs} (h : ∀ x, Le (k x) (k' x)) : Le (cko o k) (cko o k') := by
  cases o
  · exact Le.no _
  · exact h _
theorem le_bd {r r' : Rs} {k k' g g' : Int → St → Rs} (hr : Le r r') (h : ∀ x s, Le (k x s) (k' x s)) (h2 : ∀ x s, Le (g x s) (g' x s)) : Le (bd r k g) (bd r' k' g') := by
  cases e : r with
  | none => exact Le.no _
  | some q =>
    rw [hr q e]
    obtain ⟨v | x, S⟩ := q
    · exact h _ _
    · exact h2 _ _
theorem le_swc {a : Int} {k k' : Nat → Rs} {d d' : Rs} (h : ∀ x, Le (k x) (k' x)) (g : Le d d') : ∀ {tg : List Nat} {lo : Int}, Le (swc a lo tg k d) (swc a lo tg k' d') := by
  intro tg
  induction tg with
  | nil => intro lo; exact g
  | cons t r ih => intro lo; simp only [swc]; exact le_ite (h _) ih
theorem le_vsw {a : Int} {k k' : Nat → Rs} (h : ∀ x, Le (k x) (k' x)) : ∀ {l : List (Int × Nat)}, Le (vsw a l k) (vsw a l k') := by
  intro l
  induction l with
  | nil => exact Le.no _
  | cons t r ih => simp only [vsw]; exact le_ite (h _) ih
theorem le_hdl {mi i : Nat} {lv : Lv} {k k' : Nat → Lv → List Wd → St → Rs} (h : ∀ i lv s S, Le (k i lv s S) (k' i lv s S)) (x : Int) (S : St) : Le (hdl mi i lv k x S) (hdl mi i lv k' x S) := by
  unfold hdl
  split
  · exact Le.rf _
  · exact le_eqr (h _ _ _ _)
theorem le_msk {k k' : Lv → List Wd → St → Rs} (h : ∀ lv s S, Le (k lv s S) (k' lv s S)) (mi i : Nat) (lv : Lv) (st : List Wd) (S : St) : Le (msk k mi i lv st S) (msk k' mi i lv st S) := by
  unfold msk
  split
  · exact h _ _ _
  · exact le_cko fun _ => le_cko fun _ => h _ _ _
set_option maxHeartbeats 4000000 in
theorem le_stp {ph : Bool} {cg cg' : Nat → List Wd → St → Rs} {k k' : Nat → Lv → List Wd → St → Rs} (hc : ∀ m lv S, Le (cg m lv S) (cg' m lv S)) (hk : ∀ i lv s S, Le (k i lv s S) (k' i lv s S)) (mi i : Nat) (lv : Lv) (st : List Wd) (S : St) : Le (stp ph cg k mi i lv st S) (stp ph cg' k' mi i lv st S) := by
  unfold stp
  split
  · exact Le.no _
  · split <;> repeat' first | exact hk _ _ _ _ | exact hc _ _ _ | exact Le.rf _ | exact le_hdl hk _ _ | apply le_p1 | apply le_pr | apply le_pl | apply le_plr | apply le_pa | apply le_pn | apply le_ck | apply le_nz | apply le_eqr | apply le_ib | apply le_tv | apply le_ali | apply le_gtf | apply le_alm | apply le_hd1 | apply le_rcv | apply le_cond | apply le_ite | apply le_lt | apply le_cko | apply le_bd | apply le_swc | apply le_vsw | intro _
theorem run_mono1 (ph : Bool) : ∀ (n d mi i : Nat) (lv : Lv) (st : List Wd) (S : St), Le (run ph n d mi i lv st S) (run ph (n + 1) d mi i lv st S) := by
  intro n
  induction n with
  | zero => intro d mi i lv st S; exact Le.no _
  | succ n ih =>
    intro d mi i lv st S
    refine le_stp ?_ ?_ mi i lv st S
    · intro m as S; exact le_cgf (fun _ _ _ _ => ih _ _ _ _ _ _) _ _ _ _
    · intro i lv s S; exact le_msk (fun _ _ _ => ih _ _ _ _ _ _) _ _ _ _ _
theorem run_mono {ph : Bool} {n n' : Nat} (h : n ≤ n') (d mi i : Nat) (lv : Lv) (st : List Wd) (S : St) : Le (run ph n d mi i lv st S) (run ph n' d mi i lv st S) := by
  induction h with
  | refl => exact Le.rf _
  | step _ ih => exact ih.tr (run_mono1 _ _ _ _ _ _ _ _)
/-- THE RUN, without a count of steps -/
noncomputable def rn (ph : Bool) (d mi i : Nat) (lv : Lv) (st : List Wd) (S : St) : Rs :=
  @dite Rs (∃ n, (run ph n d mi i lv st S).isSome = true) (Classical.propDecidable _) (fun h => run ph (Classical.choose h) d mi i lv st S) (fun _ => none)
theorem rn_of {ph : Bool} {n d mi i : Nat} {lv : Lv} {st : List Wd} {S : St} {r : (Int ⊕ Int) × St} (h : run ph n d mi i lv st S = some r) : rn ph d mi i lv st S = some r := by
  have hx : ∃ n, (run ph n d mi i lv st S).isSome = true := ⟨n, by rw [h]; rfl⟩
  unfold rn
  rw [dif_pos hx]
  have h1 := Classical.choose_spec hx
  obtain ⟨r', e⟩ := Option.isSome_iff_exists.mp h1
  rcases Nat.le_total n (Classical.choose hx) with q | q
  · exact run_mono q _ _ _ _ _ _ r h
  · rw [run_mono q _ _ _ _ _ _ r' e] at h
    rw [e]; exact h
theorem rn_to {ph : Bool} {d mi i : Nat} {lv : Lv} {st : List Wd} {S : St} {r : (Int ⊕ Int) × St} (h : rn ph d mi i lv st S = some r) : ∃ n, run ph n d mi i lv st S = some r := by
  unfold rn at h
  by_cases hx : ∃ n, (run ph n d mi i lv st S).isSome = true
  · rw [dif_pos hx] at h; exact ⟨_, h⟩
  · rw [dif_neg hx] at h; cases h
/-- a call, with d frames left -/
noncomputable def cgd (ph : Bool) (d m : Nat) (as : List Wd) (S : St) : Rs := cgf (fun d m as S => rn ph d m 0 (lva 0 as) [] S) d m as S
/-- what is reached in the limit is reached at a step -/
def Ap (a : Rs) (f : Nat → Rs) : Prop := ∀ r, a = some r → ∃ n, f n = some r
theorem ap_rf (a : Rs) : Ap a (fun _ => a) := fun _ h => ⟨0, h⟩
theorem ap_p1 {t : Nat} {st : List Wd} {k : Int → List Wd → Rs} {f : Nat → Int → List Wd → Rs} (h : ∀ x s, Ap (k x s) (fun n => f n x s)) : Ap (p1 t st k) (fun n => p1 t st (f n)) := by
  cases st with
  | nil => exact fun r e => by cases e
  | cons w s =>
    simp only [p1]
    cases Nat.beq w.1 t
    · exact ap_rf _
    · exact h _ _
theorem ap_pr {st : List Wd} {k : Nat → Int → List Wd → Rs} {f : Nat → Nat → Int → List Wd → Rs} (h : ∀ g x s, Ap (k g x s) (fun n => f n g x s)) : Ap (pr st k) (fun n => pr st (f n)) := by
  cases st with
  | nil => exact fun r e => by cases e
  | cons w s =>
    simp only [pr]
    cases Nat.ble 2 w.1
    · exact ap_rf _
    · exact h _ _ _
theorem ap_pa {st : List Wd} {k : Wd → List Wd → Rs} {f : Nat → Wd → List Wd → Rs} (h : ∀ x s, Ap (k x s) (fun n => f n x s)) : Ap (pa st k) (fun n => pa st (f n)) := by
  cases st with
  | nil => exact fun r e => by cases e
  | cons w s =>
    simp only [pa]
    cases Nat.beq w.1 1
    · exact h _ _
    · exact ap_rf _
theorem ap_pl {t i : Nat} {lv : Lv} {k : Int → Rs} {f : Nat → Int → Rs} (h : ∀ x, Ap (k x) (fun n => f n x)) : Ap (pl t i lv k) (fun n => pl t i lv (f n)) := by
  unfold pl
  cases lg_ lv i with
  | none => exact ap_rf _
  | some w =>
    simp only
    cases Nat.beq w.1 t
    · exact ap_rf _
    · exact h _
theorem ap_plr {i : Nat} {lv : Lv} {k : Nat → Int → Rs} {f : Nat → Nat → Int → Rs} (h : ∀ g x, Ap (k g x) (fun n => f n g x)) : Ap (plr i lv k) (fun n => plr i lv (f n)) := by
  unfold plr
  cases lg_ lv i with
  | none => exact ap_rf _
  | some w =>
    simp only
    cases Nat.ble 2 w.1
    · exact ap_rf _
    · exact h _ _
theorem ap_pn {m : Nat} {k : List Wd → List Wd → Rs} {f : Nat → List Wd → List Wd → Rs} (h : ∀ x s, Ap (k x s) (fun n => f n x s)) : ∀ {acc st : List Wd}, Ap (pn m acc st k) (fun n => pn m acc st (f n)) := by
  induction m with
  | zero => intro acc st; simp only [pn]; exact h _ _
  | succ m ih =>
    intro acc st
    cases st with
    | nil => exact fun r e => by cases e
    | cons w s => simp only [pn]; exact ih
theorem ap_ck {b : Bool} {a : Rs} {f : Nat → Rs} (h : Ap a f) : Ap (ck b a) (fun n => ck b (f n)) := by
  cases b
  · exact fun r e => by cases e
  · exact h
theorem ap_cond {b : Bool} {a c : Rs} {f g : Nat → Rs} (h : Ap a f) (h2 : Ap c g) : Ap (cond b a c) (fun n => cond b (f n) (g n)) := by
  cases b
  · exact h2
  · exact h
theorem ap_ite {c : Prop} [Decidable c] {a b : Rs} {f g : Nat → Rs} (h : Ap a f) (h2 : Ap b g) : Ap (if c then a else b) (fun n => if c then f n else g n) := by
  by_cases hc : c
  · simp only [if_pos hc]; exact h
  · simp only [if_neg hc]; exact h2
theorem ap_nz {x : Int} {a : Rs} {f : Nat → Rs} (h : Ap a f) : Ap (nz x a) (fun n => nz x (f n)) := ap_ite (ap_rf _) h
theorem ap_eqr {x y : Int} {a : Rs} {f : Nat → Rs} (h : Ap a f) : Ap (eqr x y a) (fun n => eqr x y (f n)) := ap_ite h (ap_rf _)
theorem ap_ib {x y : Int} {a : Rs} {f : Nat → Rs} (h : Ap a f) : Ap (ib x y a) (fun n => ib x y (f n)) := ap_ite h (ap_rf _)
theorem ap_tv {x : Int} {a : Rs} {f : Nat → Rs} (h : Ap a f) : Ap (tv x a) (fun n => tv x (f n)) := ap_ite h (ap_rf _)
theorem ap_ali {ph : Bool} {x y : Int} {a : Rs} {f : Nat → Rs} (h : Ap a f) : Ap (ali ph x y a) (fun n => ali ph x y (f n)) := ap_ite (ap_ite h (ap_rf _)) h
theorem ap_gtf {tg : List Nat} {a : Rs} {b : Nat → Rs} {f : Nat → Rs} {g : Nat → Nat → Rs} (h : Ap a f) (h2 : ∀ j, Ap (b j) (fun n => g n j)) : Ap (gtf tg a b) (fun n => gtf tg (f n) (g n)) := by
  cases tg
  · exact h
  · exact h2 _
theorem ap_alm {o : Option Int} {x : Int} {a : Rs} {f : Nat → Rs} (h : Ap a f) : Ap (alm o x a) (fun n => alm o x (f n)) := by
  cases o
  · exact h
  · exact ap_eqr h
theorem ap_hd1 {as : List Wd} {k : Wd → List Wd → Rs} {f : Nat → Wd → List Wd → Rs} (h : ∀ x s, Ap (k x s) (fun n => f n x s)) : Ap (hd1 as k) (fun n => hd1 as (f n)) := by
  cases as
  · exact fun r e => by cases e
  · exact h _ _
theorem ap_rcv {z : Int} {as : List Wd} {k : List Wd → Rs} {f : Nat → List Wd → Rs} (h : ∀ x, Ap (k x) (fun n => f n x)) : Ap (rcv z as k) (fun n => rcv z as (f n)) := by
  cases as
  · exact fun r e => by cases e
  · exact ap_ite (ap_nz (h _)) (ap_eqr (h _))
theorem ap_lt {α : Type} {a : α} {k : α → Rs} {f : Nat → α → Rs} (h : ∀ x, Ap (k x) (fun n => f n x)) : Ap (lt_ a k) (fun n => lt_ a (f n)) := h a
theorem ap_cko {α : Type} {o : Option α} {k : α → Rs} {f : Nat → α → Rs} (h : ∀ x, Ap (k x) (fun n => f n x)) : Ap (cko o k) (fun n => cko o (f n)) := by
  cases o
  · exact fun r e => by cases e
  · exact h _
theorem ap_bd {r : Rs} {k g : Int → St → Rs} {r' : Nat → Rs} {k' g' : Nat → Int → St → Rs} (hr : Ap r r') (h : ∀ x s, Ap (k x s) (fun n => k' n x s)) (h2 : ∀ x s, Ap (g x s) (fun n => g' n x s))
    (mr : ∀ n m, n ≤ m → Le (r' n) (r' m)) (mk : ∀ n m x s, n ≤ m → Le (k' n x s) (k' m x s)) (mg : ∀ n m x s, n ≤ m → Le (g' n x s) (g' m x s)) : Ap (bd r k g) (fun n => bd (r' n) (k' n) (g' n)) := by
  intro q e
  cases er : r with
  | none => rw [er] at e; cases e
  | some p =>
    obtain ⟨a, ea⟩ := hr p er
    rw [er] at e
    obtain ⟨v | x, S⟩ := p
    · obtain ⟨b, eb⟩ := h v S q e
      refine ⟨max a b, ?_⟩
      have h1 := mr a (max a b) (Nat.le_max_left _ _) _ ea
      have h3 := mk b (max a b) v S (Nat.le_max_right _ _) _ eb
      simp only [h1, bd]; exact h3
    · obtain ⟨b, eb⟩ := h2 x S q e
      refine ⟨max a b, ?_⟩
      have h1 := mr a (max a b) (Nat.le_max_left _ _) _ ea
      have h3 := mg b (max a b) x S (Nat.le_max_right _ _) _ eb
      simp only [h1, bd]; exact h3
theorem ap_swc {a : Int} {k : Nat → Rs} {d : Rs} {k' : Nat → Nat → Rs} {d' : Nat → Rs} (h : ∀ x, Ap (k x) (fun n => k' n x)) (g : Ap d d') : ∀ {tg : List Nat} {lo : Int}, Ap (swc a lo tg k d) (fun n => swc a lo tg (k' n) (d' n)) := by
  intro tg
  induction tg with
  | nil => intro lo; exact g
  | cons t r ih => intro lo; simp only [swc]; exact ap_ite (h _) ih
theorem ap_vsw {a : Int} {k : Nat → Rs} {k' : Nat → Nat → Rs} (h : ∀ x, Ap (k x) (fun n => k' n x)) : ∀ {l : List (Int × Nat)}, Ap (vsw a l k) (fun n => vsw a l (k' n)) := by
  intro l
  induction l with
  | nil => exact fun r e => by cases e
  | cons t r ih => simp only [vsw]; exact ap_ite (h _) ih
theorem ap_hdl {mi i : Nat} {lv : Lv} {k : Nat → Lv → List Wd → St → Rs} {k' : Nat → Nat → Lv → List Wd → St → Rs} (h : ∀ i lv s S, Ap (k i lv s S) (fun n => k' n i lv s S)) (x : Int) (S : St) : Ap (hdl mi i lv k x S) (fun n => hdl mi i lv (k' n) x S) := by
  unfold hdl
  cases hnd mi i with
  | none => exact ap_rf _
  | some p => exact ap_eqr (h _ _ _ _)
theorem ap_msk {k : Lv → List Wd → St → Rs} {f : Nat → Lv → List Wd → St → Rs} (h : ∀ lv s S, Ap (k lv s S) (fun n => f n lv s S)) (mi i : Nat) (lv : Lv) (st : List Wd) (S : St) : Ap (msk k mi i lv st S) (fun n => msk (f n) mi i lv st S) := by
  unfold msk
  cases cut mi i with
  | none => exact h _ _ _
  | some q => exact ap_cko fun _ => ap_cko fun _ => h _ _ _
set_option maxHeartbeats 8000000 in
theorem ap_stp {ph : Bool} {cg : Nat → List Wd → St → Rs} {k : Nat → Lv → List Wd → St → Rs} {cg' : Nat → Nat → List Wd → St → Rs} {k' : Nat → Nat → Lv → List Wd → St → Rs}
    (hc : ∀ m lv S, Ap (cg m lv S) (fun n => cg' n m lv S)) (hk : ∀ i lv s S, Ap (k i lv s S) (fun n => k' n i lv s S))
    (mc : ∀ n m x lv S, n ≤ m → Le (cg' n x lv S) (cg' m x lv S)) (mk : ∀ n m i lv s S, n ≤ m → Le (k' n i lv s S) (k' m i lv s S)) (mi i : Nat) (lv : Lv) (st : List Wd) (S : St) : Ap (stp ph cg k mi i lv st S) (fun n => stp ph (cg' n) (k' n) mi i lv st S) := by
  unfold stp
  cases cod mi i with
  | none => exact ap_rf _
  | some q =>
    obtain ⟨pc, ins, x, y, t, z, tg⟩ := q
    simp only
    split <;> repeat' first | exact hk _ _ _ _ | exact hc _ _ _ | exact ap_rf _ | exact ap_hdl hk _ _ | exact mc _ _ _ _ _ ‹_› | exact mk _ _ _ _ _ _ ‹_› | exact le_hdl (fun _ _ _ _ => mk _ _ _ _ _ _ ‹_›) _ _ | apply ap_p1 | apply ap_pr | apply ap_pl | apply ap_plr | apply ap_pa | apply ap_pn | apply ap_ck | apply ap_nz | apply ap_eqr | apply ap_ib | apply ap_tv | apply ap_ali | apply ap_gtf | apply ap_alm | apply ap_hd1 | apply ap_rcv | apply ap_cond | apply ap_ite | apply ap_lt | apply ap_cko | apply ap_bd | apply ap_swc | apply ap_vsw | intro _
theorem rn_eq (ph : Bool) (d mi i : Nat) (lv : Lv) (st : List Wd) (S : St) : rn ph d mi i lv st S = stp ph (cgd ph d) (fun i lv st S => msk (rn ph d mi i) mi i lv st S) mi i lv st S := by
  have A : Le (rn ph d mi i lv st S) (stp ph (cgd ph d) (fun i lv st S => msk (rn ph d mi i) mi i lv st S) mi i lv st S) := by
    intro r e
    obtain ⟨n, h⟩ := rn_to e
    cases n with
    | zero => cases h
    | succ n =>
      refine le_stp ?_ ?_ mi i lv st S r h
      · intro m as S; exact le_cgf (fun _ _ _ _ _ h => rn_of h) _ _ _ _
      · intro i lv s S; exact le_msk (fun _ _ _ _ h => rn_of h) _ _ _ _ _
  have B : Le (stp ph (cgd ph d) (fun i lv st S => msk (rn ph d mi i) mi i lv st S) mi i lv st S) (rn ph d mi i lv st S) := by
    clear A
    intro r e
    have h := ap_stp (ph := ph) (cg := cgd ph d) (k := fun i lv st S => msk (rn ph d mi i) mi i lv st S) (cg' := fun n => cgf (fun d m as S => run ph n d m 0 (lva 0 as) [] S) d) (k' := fun n i lv st S => msk (run ph n d mi i) mi i lv st S) ?_ ?_ ?_ ?_ mi i lv st S r e
    · obtain ⟨n, h⟩ := h
      exact rn_of (n := n + 1) h
    · intro m lv S; exact ap_cgf (fun _ _ _ _ _ h => rn_to h) _ _ _ _
    · intro i lv s S; exact ap_msk (fun _ _ _ _ h => rn_to h) _ _ _ _ _
    · intro n m x lv S hnm; exact le_cgf (fun _ _ _ _ => run_mono hnm _ _ _ _ _ _) _ _ _ _
    · intro n m i lv s S hnm; exact le_msk (fun _ _ _ => run_mono hnm _ _ _ _ _ _) _ _ _ _ _
  cases h : rn ph d mi i lv st S with
  | some r => exact (A r h).symm
  | none =>
    cases h2 : stp ph (cgd ph d) (fun i lv st S => msk (rn ph d mi i) mi i lv st S) mi i lv st S with
    | none => rfl
    | some r => have := B r h2; rw [h] at this; cases this
/-- unrolled up to the next cuts -/
noncomputable def U (d mi n : Nat) : Nat → Lv → List Wd → St → Rs :=
  Nat.rec (motive := fun _ => Nat → Lv → List Wd → St → Rs) (fun i lv st S => rn true d mi i lv st S)
    (fun _ ih i lv st S => stp true (cgd true d) (fun i' lv' st' S' => match cut mi i' with
      | none => ih i' lv' st' S'
      | some q => cko (pkl q.1 lv') fun lv => cko (coL q.2 st') fun st => rn true d mi i' lv st S') mi i lv st S) n
theorem U_eq (d mi : Nat) : ∀ (n i : Nat) (lv : Lv) (st : List Wd) (S : St), U d mi n i lv st S = rn true d mi i lv st S := by
  intro n
  induction n with
  | zero => intro i lv st S; rfl
  | succ n ih =>
    intro i lv st S
    rw [rn_eq]
    show stp true (cgd true d) (fun i' lv' st' S' => match cut mi i' with
      | none => U d mi n i' lv' st' S'
      | some q => cko (pkl q.1 lv') fun lv => cko (coL q.2 st') fun st => rn true d mi i' lv st S') mi i lv st S = _
    congr 1
    funext i' lv' st' S'
    unfold msk
    cases cut mi i' with
    | none => exact ih _ _ _ _
    | some q => rfl
