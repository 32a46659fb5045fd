/-! SOUNDNESS, 17: what the code table says is what the class files say: the check of an entry -/
set_option maxRecDepth 100000
/-- the types of arrays -/
def atl : List FieldType := [.int, .byte, .boolean, .long, .object (cn 17), .object (cn 22), .object (cn 27), .object (cn 30), .object (cn 40), .object (cn 39), .object (cn 38)]
def atx (k : Nat) : Nat := cond (Nat.blt (akd k) 4) (akd k) (cond (Nat.beq (ael k) 17) 4 (cond (Nat.beq (ael k) 22) 5 (cond (Nat.beq (ael k) 27) 6 (cond (Nat.beq (ael k) 30) 7 (cond (Nat.beq (ael k) 40) 8 (cond (Nat.beq (ael k) 39) 9 10))))))
/-- the place of an instruction -/
noncomputable def pcn (m i : Nat) : Nat := match cod m i with
  | none => 0
  | some e => e.1
def fix_ (k y : Nat) : Nat := (kfs k).findIdx (fun q => Nat.beq q y)
/-- a class's field: every kind of it has it -/
def okF (x y : Nat) : Bool := Nat.blt x 60 && (kl.all fun k => !(sb x k) || Nat.blt (fix_ k y) (fN k)) && (Nat.beq x (fow y) || decide ((x, y) ∈ sfk))
def rty (t : FieldType) : Bool := match t with
  | .object _ => true
  | .array _ => true
  | _ => false

def m2 (l : List (Nat × Nat)) (a b : Nat) : Bool := l.any fun q => Nat.beq q.1 a && Nat.beq q.2 b
def m3 (l : List (Nat × Nat × Nat)) (a b c : Nat) : Bool := l.any fun q => Nat.beq q.2.1 b && (Nat.beq q.1 a && Nat.beq q.2.2 c)
def m4 (l : List (Nat × Nat × Nat × Nat)) (a b c d : Nat) : Bool := l.any fun q => Nat.beq q.2.1 b && (Nat.beq q.1 a && (Nat.beq q.2.2.1 c && Nat.beq q.2.2.2 d))
def m3e (l : List (Nat × Nat × Nat × Nat)) (a b c : Nat) : Bool := l.any fun q => Nat.beq q.2.1 b && (Nat.beq q.1 a && Nat.beq q.2.2.1 c)
def m4e (l : List (Nat × Nat × Nat × Nat × Nat)) (a b c d : Nat) : Bool := l.any fun q => Nat.beq q.2.1 b && (Nat.beq q.1 a && (Nat.beq q.2.2.1 c && Nat.beq q.2.2.2.1 d))
def m3i (l : List (Nat × Nat × Int)) (a b : Nat) (z : Int) : Bool := l.any fun q => Nat.beq q.2.1 b && (Nat.beq q.1 a && decide (q.2.2 = z))
def mem_ (l : List Nat) (a : Nat) : Bool := l.any fun q => Nat.beq q a
noncomputable def dcd (m pc : Nat) (ins : Instr) (n : Nat) : Bool := match decode (mby m) pc with
  | .ok q => Nat.beq q.2 n && decide (q.1 = ins)
  | .error _ => false
noncomputable def dcx_ (m pc : Nat) (ins : Instr) : Bool := match decode (mby m) pc with
  | .ok q => decide (q.1 = ins)
  | .error _ => false
noncomputable def nxt (m i pc n : Nat) : Bool := Nat.beq (pcn m (i + 1)) (pc + n)
noncomputable def jmp (m pc x : Nat) (off : Int) : Bool := decide ((pc : Int) + off = (pcn m x : Int))
def okLb (m idx x y : Nat) : Bool := m4 flk (own m) idx x y || m4e fnk (own m) idx x y
def lkb (m idx x : Nat) : Bool := m3 mlk (own m) idx x || m3e mnk (own m) idx x
def ckc (x : Nat) : Bool := kl.all fun kd => !(sb x kd) || (Nat.beq kd x || m2 ctk kd x)
/-- nothing catches at pc -/
def outB (m pc : Nat) : Bool := (mht m).all fun q => !(Nat.ble q.1 pc && Nat.blt pc q.2.1)
noncomputable def okHb (m i pc : Nat) : Bool := match hnd m i with
  | none => outB m pc
  | some (kc, tg) => match mht m with
    | [(h0, h1, h2, h3)] => Nat.ble h0 pc && (Nat.blt pc h1 && (Nat.beq (pcn m tg) h2 && (!(Nat.beq h3 0) && (decide (0 ≤ kc) && m3 clk (own m) h3 kc.toNat))))
    | _ => false
/-- a throw stands at pc -/
noncomputable def thr (m pc x : Nat) : Bool := dcd m (pc + 3) .dup 1 && (dcd m (pc + 7) .athrow 1 && (outB m (pc + 7) && (Nat.beq (knS x) 6 && (match decode (mby m) (pc + 4) with
  | .ok (.invokespecial ic, n) => Nat.beq n 3 && m3 thk (own m) ic x
  | _ => false))))
noncomputable def okE (m i : Nat) (e : En) : Bool := match e with
  | (pc, ins, x, y, t, z, tg) => match ins with
    | .iconst n => dcd m pc ins 1 && (nxt m i pc 1 && (decide ((Int32.ofInt n).toInt = z)))
    | .bipush n => dcd m pc ins 2 && (nxt m i pc 2 && (decide (((Int8.ofInt n).toInt32).toInt = z)))
    | .sipush n => dcd m pc ins 3 && (nxt m i pc 3 && (decide (((Int16.ofInt n).toInt32).toInt = z)))
    | .ldc n => dcd m pc ins 2 && (nxt m i pc 2 && (cond (Nat.beq t 0) (m3i cik (own m) n z && decide ((Int32.ofInt z).toInt = z)) (Nat.beq t 3 && (decide (0 ≤ z) && (Nat.blt z.toNat 50 && m3 srk (own m) n z.toNat)))))
    | .ldc_w n => dcd m pc ins 3 && (nxt m i pc 3 && (cond (Nat.beq t 0) (m3i cik (own m) n z && decide ((Int32.ofInt z).toInt = z)) (Nat.beq t 3 && (decide (0 ≤ z) && (Nat.blt z.toNat 50 && m3 srk (own m) n z.toNat)))))
    | .ldc2_w n => dcd m pc ins 3 && (nxt m i pc 3 && (m3i cjk (own m) n z && (decide ((Int64.ofInt z).toInt = z))))
    | .lconst n => dcd m pc ins 1 && (nxt m i pc 1 && (decide ((Int64.ofNat (n : Nat)).toInt = z)))
    | .iload_n _ => dcd m pc ins 1 && (nxt m i pc 1)
    | .lload_n _ => dcd m pc ins 1 && (nxt m i pc 1)
    | .aload_n _ => dcd m pc ins 1 && (nxt m i pc 1)
    | .aconst_null => dcd m pc ins 1 && (nxt m i pc 1)
    | .arraylength => dcd m pc ins 1 && (nxt m i pc 1)
    | .iaload => dcd m pc ins 1 && (nxt m i pc 1)
    | .baload => dcd m pc ins 1 && (nxt m i pc 1)
    | .laload => dcd m pc ins 1 && (nxt m i pc 1)
    | .aaload => dcd m pc ins 1 && (nxt m i pc 1)
    | .iastore => dcd m pc ins 1 && (nxt m i pc 1)
    | .bastore => dcd m pc ins 1 && (nxt m i pc 1)
    | .lastore => dcd m pc ins 1 && (nxt m i pc 1)
    | .aastore => dcd m pc ins 1 && (nxt m i pc 1)
    | .iload _ => dcd m pc ins 2 && (nxt m i pc 2)
    | .lload _ => dcd m pc ins 2 && (nxt m i pc 2)
    | .aload _ => dcd m pc ins 2 && (nxt m i pc 2)
    | .istore_n n => dcd m pc ins 1 && (nxt m i pc 1 && (Nat.blt n.val (mxl m)))
    | .istore n => dcd m pc ins 2 && (nxt m i pc 2 && (Nat.blt n (mxl m)))
    | .astore_n n => dcd m pc ins 1 && (nxt m i pc 1 && (Nat.blt n.val (mxl m)))
    | .astore n => dcd m pc ins 2 && (nxt m i pc 2 && (Nat.blt n (mxl m)))
    | .lstore_n n => dcd m pc ins 1 && (nxt m i pc 1 && (Nat.blt (n.val + 1) (mxl m)))
    | .lstore n => dcd m pc ins 2 && (nxt m i pc 2 && (Nat.blt (n + 1) (mxl m)))
    | .iinc n _ => dcd m pc ins 3 && (nxt m i pc 3 && (Nat.blt n (mxl m)))
    | .iadd => dcd m pc ins 1 && (nxt m i pc 1)
    | .isub => dcd m pc ins 1 && (nxt m i pc 1)
    | .imul => dcd m pc ins 1 && (nxt m i pc 1)
    | .idiv => dcd m pc ins 1 && (nxt m i pc 1)
    | .irem => dcd m pc ins 1 && (nxt m i pc 1)
    | .iand => dcd m pc ins 1 && (nxt m i pc 1)
    | .ior => dcd m pc ins 1 && (nxt m i pc 1)
    | .ixor => dcd m pc ins 1 && (nxt m i pc 1)
    | .ishl => dcd m pc ins 1 && (nxt m i pc 1)
    | .ishr => dcd m pc ins 1 && (nxt m i pc 1)
    | .iushr => dcd m pc ins 1 && (nxt m i pc 1)
    | .ladd => dcd m pc ins 1 && (nxt m i pc 1)
    | .lsub => dcd m pc ins 1 && (nxt m i pc 1)
    | .lmul => dcd m pc ins 1 && (nxt m i pc 1)
    | .ldiv => dcd m pc ins 1 && (nxt m i pc 1)
    | .lrem => dcd m pc ins 1 && (nxt m i pc 1)
    | .land => dcd m pc ins 1 && (nxt m i pc 1)
    | .lor => dcd m pc ins 1 && (nxt m i pc 1)
    | .lxor => dcd m pc ins 1 && (nxt m i pc 1)
    | .lshl => dcd m pc ins 1 && (nxt m i pc 1)
    | .lshr => dcd m pc ins 1 && (nxt m i pc 1)
    | .lushr => dcd m pc ins 1 && (nxt m i pc 1)
    | .lcmp => dcd m pc ins 1 && (nxt m i pc 1)
    | .i2l => dcd m pc ins 1 && (nxt m i pc 1)
    | .l2i => dcd m pc ins 1 && (nxt m i pc 1)
    | .i2b => dcd m pc ins 1 && (nxt m i pc 1)
    | .ineg => dcd m pc ins 1 && (nxt m i pc 1)
    | .lneg => dcd m pc ins 1 && (nxt m i pc 1)
    | .dup => dcd m pc ins 1 && (nxt m i pc 1)
    | .dup_x1 => dcd m pc ins 1 && (nxt m i pc 1)
    | .dup2 => dcd m pc ins 1 && (nxt m i pc 1)
    | .pop => dcd m pc ins 1 && (nxt m i pc 1)
    | .goto off => dcd m pc ins 3 && (jmp m pc x off)
    | .ifCond _ off => dcd m pc ins 3 && (nxt m i pc 3 && (jmp m pc x off))
    | .if_icmp _ off => dcd m pc ins 3 && (nxt m i pc 3 && (jmp m pc x off))
    | .if_acmp _ off => dcd m pc ins 3 && (nxt m i pc 3 && (jmp m pc x off))
    | .ifnull off => dcd m pc ins 3 && (nxt m i pc 3 && (jmp m pc x off))
    | .ifnonnull off => dcd m pc ins 3 && (nxt m i pc 3 && (jmp m pc x off))
    | .tableswitch d lo hi offs => dcx_ m pc ins && (jmp m pc x d && (Nat.beq tg.length offs.size && (decide (hi = lo + (offs.size : Int) - 1) && ((List.range tg.length).all fun j => jmp m pc (tg.getD j 0) (offs.getD j 0)))))
    | .getfield n => dcd m pc ins 3 && (nxt m i pc 3 && (okF x y && (okLb m n x y && (Nat.beq t (ftg y)))))
    | .putfield n => dcd m pc ins 3 && (nxt m i pc 3 && (okF x y && (okLb m n x y && (Nat.beq t (ftg y) && ((!(ffi y) || (decide (2 ≤ z) && (Nat.beq (fow y) (own m) && (decide (mnn m = "<init>") && m4 flk (own m) n x y)))) && (cond (Nat.beq t 0) (cond (Nat.beq (z.toNat % 2) 1) (decide (fty y = .boolean)) (decide (fty y = .int))) (cond (Nat.beq t 1) (decide (fty y = .long)) (Nat.ble 10 t && rty (fty y)))))))))
    | .new n => dcd m pc ins 3 && (m3 clk (own m) n x && (mem_ kl x && (mem_ ink x && (mem_ isk_ x && (cond (Nat.beq x 53 || Nat.beq x 54) (thr m pc x) (nxt m i pc 3 && (Nat.blt x 53 && Nat.beq y (knS x))))))))
    | .newarray a => dcd m pc ins 2 && (nxt m i pc 2 && (Nat.blt (akd x) 4 && (decide (newarray.typeOf a = atl.getD (akd x) .int))))
    | .anewarray n => dcd m pc ins 3 && (nxt m i pc 3 && (Nat.beq (akd x) 4 && (m3 clk (own m) n y && (Nat.beq (ael x) y))))
    | .checkcast n => dcd m pc ins 3 && (nxt m i pc 3 && (m3 clk (own m) n x && (Nat.blt x 60 && (Nat.ble 10 x && (ckc x)))))
    | .instanceof n => dcd m pc ins 3 && (nxt m i pc 3 && (m3 clk (own m) n x && (Nat.blt x 60 && (Nat.ble 10 x && (ckc x && (kl.all (fun kd => !(sb 22 kd) || (sb x kd || m2 nck kd x))))))))
    | .invokestatic n => dcd m pc ins 3 && (nxt m i pc 3 && (cond (Nat.blt y 100) (okHb m i pc && (Nat.blt x 467 && (Nat.beq t (rtg x) && (Nat.beq (mkd x) 0 && (lkb m n x))))) (m2 ylk (own m) n && (!(Nat.beq (akd x) 4) || kl.all (fun kd => !(sb (ael x) kd) || Nat.beq kd (ael x))))))
    | .invokespecial n => dcd m pc ins 3 && (nxt m i pc 3 && (cond (Nat.blt y 100) (okHb m i pc && (Nat.blt x 467 && (Nat.beq t (rtg x) && (cond (Nat.beq (mkd x) 1) (lkb m n x) ((Nat.beq (mkd x) 2 || Nat.beq (mkd x) 3) && (decide (mnn x ≠ "<init>") && (m3 mlk (own m) n x && (m3 suk (own m) n x)))))))) (!(Nat.blt y 400) || m2 olk (own m) n)))
    | .invokevirtual n => dcd m pc ins 3 && (nxt m i pc 3 && (cond (Nat.blt y 100) (okHb m i pc && (Nat.blt x 467 && (Nat.beq t (rtg x) && ((match tg with
      | [] => Nat.beq (mkd x) 2 && lkb m n x
      | [D] => (Nat.beq (mkd x) 2 || Nat.beq (mkd x) 3) && (m4 ulk (own m) n D x && (Nat.ble 10 D && (Nat.blt D 60 && (kl.all (fun kd => !(sb D kd) || m3 usk kd D x)))))
      | _ => false))))) (cond (Nat.blt y 200) (okHb m i pc && (Nat.blt x 10 && ((vt x).all (fun q => Nat.beq t (rtg q.2)) && (m3 dlk (own m) n x)))) (cond (Nat.blt y 500) (m2 jlk (own m) n) (m2 jak (own m) n)))))
    | .ireturn => dcd m pc ins 1 && (Nat.beq (rtg m) 0 && ((decide (mrt m = some .int) && Nat.beq t 0 || decide (mrt m = some .boolean) && Nat.beq t 4)))
    | .lreturn => dcd m pc ins 1 && (Nat.beq (rtg m) 1 && (decide (mrt m = some .long)))
    | .areturn => dcd m pc ins 1 && (Nat.beq (rtg m) t && (Nat.ble 2 t && (!(Nat.beq t 9) && ((match mrt m with
      | some ty => rty ty
      | none => false)))))
    | .return_ => dcd m pc ins 1 && (Nat.beq (rtg m) 9 && (decide (mrt m = none)))
    | _ => true
noncomputable def okM (m : Nat) : Bool := (List.range (cln m)).all fun i => match cod m i with
  | none => true
  | some e => okE m i e

