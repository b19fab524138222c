/-! THE ABSTRACT INSTRUCTIONS (simple ones): written by gen/mkops.py -/
set_option maxRecDepth 100000
section OPS
abbrev xS (x : CX) : State := x.2.1.1
abbrev xH0 (x : CX) : HS := x.2.2.2.1.2.2
abbrev xC (x : CX) : Code := x.2.2.1.2.1
variable {x : CX} {cc : ByteArray} {pc : Nat} {K T : Ct}
/-- the machine is the model's, the code is cc -/
abbrev Xb (x : CX) (cc : ByteArray) : Prop := x.1.1.tables.exec = Jvm.exec ∧ (xC x).code = cc
def o_iadd (K : Ct) : Ct := fun ls st h => match st with | .int z :: .int y :: r => K ls (.int (y + z) :: r) h | _ => False
theorem s_iadd (G : Xb x cc) (d : decode cc pc = .ok (.iadd, 1)) (k : Snd x (pc + 1) K) : Snd x pc (o_iadd K) := by
  intro ls st h hk H locs lsC hR hL hl
  unfold o_iadd at hk
  split at hk
  · exact lv_iadd G.1 G.2 d (k _ _ _ hk H locs lsC hR hL hl)
  · exact hk.elim
def o_isub (K : Ct) : Ct := fun ls st h => match st with | .int z :: .int y :: r => K ls (.int (y - z) :: r) h | _ => False
theorem s_isub (G : Xb x cc) (d : decode cc pc = .ok (.isub, 1)) (k : Snd x (pc + 1) K) : Snd x pc (o_isub K) := by
  intro ls st h hk H locs lsC hR hL hl
  unfold o_isub at hk
  split at hk
  · exact lv_isub G.1 G.2 d (k _ _ _ hk H locs lsC hR hL hl)
  · exact hk.elim
def o_imul (K : Ct) : Ct := fun ls st h => match st with | .int z :: .int y :: r => K ls (.int (y * z) :: r) h | _ => False
theorem s_imul (G : Xb x cc) (d : decode cc pc = .ok (.imul, 1)) (k : Snd x (pc + 1) K) : Snd x pc (o_imul K) := by
  intro ls st h hk H locs lsC hR hL hl
  unfold o_imul at hk
  split at hk
  · exact lv_imul G.1 G.2 d (k _ _ _ hk H locs lsC hR hL hl)
  · exact hk.elim
def o_iand (K : Ct) : Ct := fun ls st h => match st with | .int z :: .int y :: r => K ls (.int (y &&& z) :: r) h | _ => False
theorem s_iand (G : Xb x cc) (d : decode cc pc = .ok (.iand, 1)) (k : Snd x (pc + 1) K) : Snd x pc (o_iand K) := by
  intro ls st h hk H locs lsC hR hL hl
  unfold o_iand at hk
  split at hk
  · exact lv_iand G.1 G.2 d (k _ _ _ hk H locs lsC hR hL hl)
  · exact hk.elim
def o_ior (K : Ct) : Ct := fun ls st h => match st with | .int z :: .int y :: r => K ls (.int (y ||| z) :: r) h | _ => False
theorem s_ior (G : Xb x cc) (d : decode cc pc = .ok (.ior, 1)) (k : Snd x (pc + 1) K) : Snd x pc (o_ior K) := by
  intro ls st h hk H locs lsC hR hL hl
  unfold o_ior at hk
  split at hk
  · exact lv_ior G.1 G.2 d (k _ _ _ hk H locs lsC hR hL hl)
  · exact hk.elim
def o_ixor (K : Ct) : Ct := fun ls st h => match st with | .int z :: .int y :: r => K ls (.int (y ^^^ z) :: r) h | _ => False
theorem s_ixor (G : Xb x cc) (d : decode cc pc = .ok (.ixor, 1)) (k : Snd x (pc + 1) K) : Snd x pc (o_ixor K) := by
  intro ls st h hk H locs lsC hR hL hl
  unfold o_ixor at hk
  split at hk
  · exact lv_ixor G.1 G.2 d (k _ _ _ hk H locs lsC hR hL hl)
  · exact hk.elim
def o_ishl (K : Ct) : Ct := fun ls st h => match st with | .int z :: .int y :: r => K ls (.int (y <<< (z &&& 31)) :: r) h | _ => False
theorem s_ishl (G : Xb x cc) (d : decode cc pc = .ok (.ishl, 1)) (k : Snd x (pc + 1) K) : Snd x pc (o_ishl K) := by
  intro ls st h hk H locs lsC hR hL hl
  unfold o_ishl at hk
  split at hk
  · exact lv_ishl G.1 G.2 d (k _ _ _ hk H locs lsC hR hL hl)
  · exact hk.elim
def o_ishr (K : Ct) : Ct := fun ls st h => match st with | .int z :: .int y :: r => K ls (.int (y >>> (z &&& 31)) :: r) h | _ => False
theorem s_ishr (G : Xb x cc) (d : decode cc pc = .ok (.ishr, 1)) (k : Snd x (pc + 1) K) : Snd x pc (o_ishr K) := by
  intro ls st h hk H locs lsC hR hL hl
  unfold o_ishr at hk
  split at hk
  · exact lv_ishr G.1 G.2 d (k _ _ _ hk H locs lsC hR hL hl)
  · exact hk.elim
def o_iushr (K : Ct) : Ct := fun ls st h => match st with | .int z :: .int y :: r => K ls (.int ((y.toUInt32 >>> (z.toUInt32 &&& Int32.toUInt32 31)).toInt32) :: r) h | _ => False
theorem s_iushr (G : Xb x cc) (d : decode cc pc = .ok (.iushr, 1)) (k : Snd x (pc + 1) K) : Snd x pc (o_iushr K) := by
  intro ls st h hk H locs lsC hR hL hl
  unfold o_iushr at hk
  split at hk
  · exact lv_iushr G.1 G.2 d rfl (k _ _ _ hk H locs lsC hR hL hl)
  · exact hk.elim
def o_idiv (K : Ct) : Ct := fun ls st h => match st with | .int z :: .int y :: r => ¬ z = 0 ∧ K ls (.int (y / z) :: r) h | _ => False
theorem s_idiv (G : Xb x cc) (d : decode cc pc = .ok (.idiv, 1)) (k : Snd x (pc + 1) K) : Snd x pc (o_idiv K) := by
  intro ls st h hk H locs lsC hR hL hl
  unfold o_idiv at hk
  split at hk
  · exact lv_idiv G.1 G.2 d hk.1 (k _ _ _ hk.2 H locs lsC hR hL hl)
  · exact hk.elim
def o_irem (K : Ct) : Ct := fun ls st h => match st with | .int z :: .int y :: r => ¬ z = 0 ∧ K ls (.int (y - y / z * z) :: r) h | _ => False
theorem s_irem (G : Xb x cc) (d : decode cc pc = .ok (.irem, 1)) (k : Snd x (pc + 1) K) : Snd x pc (o_irem K) := by
  intro ls st h hk H locs lsC hR hL hl
  unfold o_irem at hk
  split at hk
  · exact lv_irem G.1 G.2 d hk.1 (k _ _ _ hk.2 H locs lsC hR hL hl)
  · exact hk.elim
def o_ineg (K : Ct) : Ct := fun ls st h => match st with | .int y :: r => K ls (.int (-y) :: r) h | _ => False
theorem s_ineg (G : Xb x cc) (d : decode cc pc = .ok (.ineg, 1)) (k : Snd x (pc + 1) K) : Snd x pc (o_ineg K) := by
  intro ls st h hk H locs lsC hR hL hl
  unfold o_ineg at hk
  split at hk
  · exact lv_ineg G.1 G.2 d (k _ _ _ hk H locs lsC hR hL hl)
  · exact hk.elim
def o_i2c (K : Ct) : Ct := fun ls st h => match st with | .int y :: r => K ls (.int ((y.toUInt32 % 65536).toInt32) :: r) h | _ => False
theorem s_i2c (G : Xb x cc) (d : decode cc pc = .ok (.i2c, 1)) (k : Snd x (pc + 1) K) : Snd x pc (o_i2c K) := by
  intro ls st h hk H locs lsC hR hL hl
  unfold o_i2c at hk
  split at hk
  · exact lv_i2c G.1 G.2 d rfl (k _ _ _ hk H locs lsC hR hL hl)
  · exact hk.elim
def o_i2b (K : Ct) : Ct := fun ls st h => match st with | .int y :: r => K ls (.int (y.toInt8.toInt32) :: r) h | _ => False
theorem s_i2b (G : Xb x cc) (d : decode cc pc = .ok (.i2b, 1)) (k : Snd x (pc + 1) K) : Snd x pc (o_i2b K) := by
  intro ls st h hk H locs lsC hR hL hl
  unfold o_i2b at hk
  split at hk
  · exact lv_i2b G.1 G.2 d rfl (k _ _ _ hk H locs lsC hR hL hl)
  · exact hk.elim
def o_i2d (K : Ct) : Ct := fun ls st h => match st with | .int y :: r => K ls (.double (FP.i2d y) :: r) h | _ => False
theorem s_i2d (G : Xb x cc) (d : decode cc pc = .ok (.i2d, 1)) (k : Snd x (pc + 1) K) : Snd x pc (o_i2d K) := by
  intro ls st h hk H locs lsC hR hL hl
  unfold o_i2d at hk
  split at hk
  · exact lv_i2d G.1 G.2 d (k _ _ _ hk H locs lsC hR hL hl)
  · exact hk.elim
def o_i2f (K : Ct) : Ct := fun ls st h => match st with | .int y :: r => K ls (.float (FP.i2f y) :: r) h | _ => False
theorem s_i2f (G : Xb x cc) (d : decode cc pc = .ok (.i2f, 1)) (k : Snd x (pc + 1) K) : Snd x pc (o_i2f K) := by
  intro ls st h hk H locs lsC hR hL hl
  unfold o_i2f at hk
  split at hk
  · exact lv_i2f G.1 G.2 d (k _ _ _ hk H locs lsC hR hL hl)
  · exact hk.elim
def o_ddiv (K : Ct) : Ct := fun ls st h => match st with | .double z :: .double y :: r => vf_n64 (FP.ddiv y z) ∧ K ls (.double (FP.ddiv y z) :: r) h | _ => False
theorem s_ddiv (G : Xb x cc) (d : decode cc pc = .ok (.ddiv, 1)) (k : Snd x (pc + 1) K) : Snd x pc (o_ddiv K) := by
  intro ls st h hk H locs lsC hR hL hl
  unfold o_ddiv at hk
  split at hk
  · exact lv_ddiv G.1 G.2 d hk.1 (k _ _ _ hk.2 H locs lsC hR hL hl)
  · exact hk.elim
def o_fdiv (K : Ct) : Ct := fun ls st h => match st with | .float z :: .float y :: r => vf_n32 (FP.fdiv y z) ∧ K ls (.float (FP.fdiv y z) :: r) h | _ => False
theorem s_fdiv (G : Xb x cc) (d : decode cc pc = .ok (.fdiv, 1)) (k : Snd x (pc + 1) K) : Snd x pc (o_fdiv K) := by
  intro ls st h hk H locs lsC hR hL hl
  unfold o_fdiv at hk
  split at hk
  · exact lv_fdiv G.1 G.2 d hk.1 (k _ _ _ hk.2 H locs lsC hR hL hl)
  · exact hk.elim
def o_f2d (K : Ct) : Ct := fun ls st h => match st with | .float y :: r => vf_n64 (FP.f2d y) ∧ K ls (.double (FP.f2d y) :: r) h | _ => False
theorem s_f2d (G : Xb x cc) (d : decode cc pc = .ok (.f2d, 1)) (k : Snd x (pc + 1) K) : Snd x pc (o_f2d K) := by
  intro ls st h hk H locs lsC hR hL hl
  unfold o_f2d at hk
  split at hk
  · exact lv_f2d G.1 G.2 d hk.1 (k _ _ _ hk.2 H locs lsC hR hL hl)
  · exact hk.elim
def o_dcmp (op : CmpOp) (K : Ct) : Ct := fun ls st h => match st with | .double z :: .double y :: r => K ls (.int (Op.cmpValue (FP.dcmp y z) op) :: r) h | _ => False
theorem s_dcmp (op : CmpOp) (G : Xb x cc) (d : decode cc pc = .ok (.dcmp op, 1)) (k : Snd x (pc + 1) K) : Snd x pc (o_dcmp op K) := by
  intro ls st h hk H locs lsC hR hL hl
  unfold o_dcmp at hk
  split at hk
  · exact lv_dcmp G.1 G.2 d (k _ _ _ hk H locs lsC hR hL hl)
  · exact hk.elim
def o_dup (K : Ct) : Ct := fun ls st h => match st with | v :: r => v.category = 1 ∧ K ls (v :: v :: r) h | _ => False
theorem s_dup (G : Xb x cc) (d : decode cc pc = .ok (.dup, 1)) (k : Snd x (pc + 1) K) : Snd x pc (o_dup K) := by
  intro ls st h hk H locs lsC hR hL hl
  unfold o_dup at hk
  split at hk
  · exact lv_dup G.1 G.2 d hk.1 (k _ _ _ hk.2 H locs lsC hR hL hl)
  · exact hk.elim
def o_pop (K : Ct) : Ct := fun ls st h => match st with | v :: r => v.category = 1 ∧ K ls (r) h | _ => False
theorem s_pop (G : Xb x cc) (d : decode cc pc = .ok (.pop, 1)) (k : Snd x (pc + 1) K) : Snd x pc (o_pop K) := by
  intro ls st h hk H locs lsC hR hL hl
  unfold o_pop at hk
  split at hk
  · exact lv_pop G.1 G.2 d hk.1 (k _ _ _ hk.2 H locs lsC hR hL hl)
  · exact hk.elim
def o_dup_x1 (K : Ct) : Ct := fun ls st h => match st with | v :: w :: r => v.category = 1 ∧ w.category = 1 ∧ K ls (v :: w :: v :: r) h | _ => False
theorem s_dup_x1 (G : Xb x cc) (d : decode cc pc = .ok (.dup_x1, 1)) (k : Snd x (pc + 1) K) : Snd x pc (o_dup_x1 K) := by
  intro ls st h hk H locs lsC hR hL hl
  unfold o_dup_x1 at hk
  split at hk
  · exact lv_dup_x1 G.1 G.2 d hk.1 hk.2.1 (k _ _ _ hk.2.2 H locs lsC hR hL hl)
  · exact hk.elim
def o_dup2 (K : Ct) : Ct := fun ls st h => match st with | v :: w :: r => v.category = 1 ∧ w.category = 1 ∧ K ls (v :: w :: v :: w :: r) h | _ => False
theorem s_dup2 (G : Xb x cc) (d : decode cc pc = .ok (.dup2, 1)) (k : Snd x (pc + 1) K) : Snd x pc (o_dup2 K) := by
  intro ls st h hk H locs lsC hR hL hl
  unfold o_dup2 at hk
  split at hk
  · exact lv_dup2_11 G.1 G.2 d hk.1 hk.2.1 (k _ _ _ hk.2.2 H locs lsC hR hL hl)
  · exact hk.elim
def o_push (v : Value) (K : Ct) : Ct := fun ls st h => K ls (v :: st) h
theorem s_iconst {n : Int} {v : Int32} (hv : Int32.ofInt n = v) (G : Xb x cc) (d : decode cc pc = .ok (.iconst n, 1)) (k : Snd x (pc + 1) K) : Snd x pc (o_push (.int v) K) := by
  intro ls st h hk H locs lsC hR hL hl
  exact lv_iconst G.1 G.2 d hv (k _ _ _ hk H locs lsC hR hL hl)
theorem s_bipush {n : Int} {v : Int32} (hv : (Int8.ofInt n).toInt32 = v) (G : Xb x cc) (d : decode cc pc = .ok (.bipush n, 2)) (k : Snd x (pc + 2) K) : Snd x pc (o_push (.int v) K) := by
  intro ls st h hk H locs lsC hR hL hl
  exact lv_bipush G.1 G.2 d hv (k _ _ _ hk H locs lsC hR hL hl)
theorem s_sipush {n : Int} {v : Int32} (hv : (Int16.ofInt n).toInt32 = v) (G : Xb x cc) (d : decode cc pc = .ok (.sipush n, 3)) (k : Snd x (pc + 3) K) : Snd x pc (o_push (.int v) K) := by
  intro ls st h hk H locs lsC hR hL hl
  exact lv_sipush G.1 G.2 d hv (k _ _ _ hk H locs lsC hR hL hl)
theorem s_null (G : Xb x cc) (d : decode cc pc = .ok (.aconst_null, 1)) (k : Snd x (pc + 1) K) : Snd x pc (o_push (.null) K) := by
  intro ls st h hk H locs lsC hR hL hl
  exact lv_null G.1 G.2 d (k _ _ _ hk H locs lsC hR hL hl)
theorem s_dconst0 (G : Xb x cc) (d : decode cc pc = .ok (.dconst 0, 1)) (k : Snd x (pc + 1) K) : Snd x pc (o_push (.double FP.dconst0) K) := by
  intro ls st h hk H locs lsC hR hL hl
  exact lv_dconst0 G.1 G.2 d (k _ _ _ hk H locs lsC hR hL hl)
def o_iload (i : Nat) (K : Ct) : Ct := fun ls st h => match ls[i]? with | some (.int z) => K ls (.int z :: st) h | _ => False
theorem s_iload {i : Nat} (G : Xb x cc) (d : decode cc pc = .ok (.iload i, 2)) (k : Snd x (pc + 2) K) : Snd x pc (o_iload i K) := by
  intro ls st h hk H locs lsC hR hL hl
  unfold o_iload at hk
  split at hk
  · next z hz => exact lv_iload G.1 G.2 d (hl.2.2.2.1 _ _ hz (fun q => by simp only [jk] at q; cases q)) (k _ _ _ hk H locs lsC hR hL hl)
  · exact hk.elim
theorem s_iload_n {i : Nat} {q : Fin 4} (hi : (q : Nat) = i) (G : Xb x cc) (d : decode cc pc = .ok (.iload_n q, 1)) (k : Snd x (pc + 1) K) : Snd x pc (o_iload i K) := by
  intro ls st h hk H locs lsC hR hL hl
  unfold o_iload at hk
  split at hk
  · next z hz => exact lv_iload_n G.1 G.2 d hi (hl.2.2.2.1 _ _ hz (fun q => by simp only [jk] at q; cases q)) (k _ _ _ hk H locs lsC hR hL hl)
  · exact hk.elim
def o_dload (i : Nat) (K : Ct) : Ct := fun ls st h => match ls[i]? with | some (.double z) => K ls (.double z :: st) h | _ => False
theorem s_dload {i : Nat} (G : Xb x cc) (d : decode cc pc = .ok (.dload i, 2)) (k : Snd x (pc + 2) K) : Snd x pc (o_dload i K) := by
  intro ls st h hk H locs lsC hR hL hl
  unfold o_dload at hk
  split at hk
  · next z hz => exact lv_dload G.1 G.2 d (hl.2.2.2.1 _ _ hz (fun q => by simp only [jk] at q; cases q)) (k _ _ _ hk H locs lsC hR hL hl)
  · exact hk.elim
theorem s_dload_n {i : Nat} {q : Fin 4} (hi : (q : Nat) = i) (G : Xb x cc) (d : decode cc pc = .ok (.dload_n q, 1)) (k : Snd x (pc + 1) K) : Snd x pc (o_dload i K) := by
  intro ls st h hk H locs lsC hR hL hl
  unfold o_dload at hk
  split at hk
  · next z hz => exact lv_dload_n G.1 G.2 d hi (hl.2.2.2.1 _ _ hz (fun q => by simp only [jk] at q; cases q)) (k _ _ _ hk H locs lsC hR hL hl)
  · exact hk.elim
def o_aload (i : Nat) (K : Ct) : Ct := fun ls st h => match ls[i]? with | some (.ref z) => K ls (.ref z :: st) h | some .null => K ls (.null :: st) h | _ => False
theorem s_aload {i : Nat} (G : Xb x cc) (d : decode cc pc = .ok (.aload i, 2)) (k : Snd x (pc + 2) K) : Snd x pc (o_aload i K) := by
  intro ls st h hk H locs lsC hR hL hl
  unfold o_aload at hk
  split at hk
  · next z hz => exact lv_aload G.1 G.2 d (hl.2.2.2.1 _ _ hz (fun q => by simp only [jk] at q; cases q)) (k _ _ _ hk H locs lsC hR hL hl)
  · next hz => exact lv_aloadN G.1 G.2 d (hl.2.2.2.1 _ _ hz (fun q => by simp only [jk] at q; cases q)) (k _ _ _ hk H locs lsC hR hL hl)
  · exact hk.elim
theorem s_aload_n {i : Nat} {q : Fin 4} (hi : (q : Nat) = i) (G : Xb x cc) (d : decode cc pc = .ok (.aload_n q, 1)) (k : Snd x (pc + 1) K) : Snd x pc (o_aload i K) := by
  intro ls st h hk H locs lsC hR hL hl
  unfold o_aload at hk
  split at hk
  · next z hz => exact lv_aload_n G.1 G.2 d hi (hl.2.2.2.1 _ _ hz (fun q => by simp only [jk] at q; cases q)) (k _ _ _ hk H locs lsC hR hL hl)
  · next hz => exact lv_aload_nN G.1 G.2 d hi (hl.2.2.2.1 _ _ hz (fun q => by simp only [jk] at q; cases q)) (k _ _ _ hk H locs lsC hR hL hl)
  · exact hk.elim
def o_ifeq (T K : Ct) : Ct := fun ls st h => match st with | .int y :: r => (if y = 0 then T ls r h else K ls r h) | _ => False
theorem s_ifeq {off : Int} {tgt : Nat} (G : Xb x cc) (d : decode cc pc = .ok (.ifCond .eq off, 3)) (ht : (pc : Int) + off = (tgt : Int)) (t : Snd x tgt T) (k : Snd x (pc + 3) K) : Snd x pc (o_ifeq T K) := by
  intro ls st h hk H locs lsC hR hL hl
  unfold o_ifeq at hk
  split at hk
  · exact lv_if_eq G.1 G.2 d ht (fun q => t _ _ _ (by rw [if_pos q] at hk; exact hk) H locs lsC hR hL hl) (fun q => k _ _ _ (by rw [if_neg q] at hk; exact hk) H locs lsC hR hL hl)
  · exact hk.elim
def o_iflt (T K : Ct) : Ct := fun ls st h => match st with | .int y :: r => (if y < 0 then T ls r h else K ls r h) | _ => False
theorem s_iflt {off : Int} {tgt : Nat} (G : Xb x cc) (d : decode cc pc = .ok (.ifCond .lt off, 3)) (ht : (pc : Int) + off = (tgt : Int)) (t : Snd x tgt T) (k : Snd x (pc + 3) K) : Snd x pc (o_iflt T K) := by
  intro ls st h hk H locs lsC hR hL hl
  unfold o_iflt at hk
  split at hk
  · exact lv_if_lt G.1 G.2 d ht (fun q => t _ _ _ (by rw [if_pos q] at hk; exact hk) H locs lsC hR hL hl) (fun q => k _ _ _ (by rw [if_neg q] at hk; exact hk) H locs lsC hR hL hl)
  · exact hk.elim
def o_ifgt (T K : Ct) : Ct := fun ls st h => match st with | .int y :: r => (if 0 < y then T ls r h else K ls r h) | _ => False
theorem s_ifgt {off : Int} {tgt : Nat} (G : Xb x cc) (d : decode cc pc = .ok (.ifCond .gt off, 3)) (ht : (pc : Int) + off = (tgt : Int)) (t : Snd x tgt T) (k : Snd x (pc + 3) K) : Snd x pc (o_ifgt T K) := by
  intro ls st h hk H locs lsC hR hL hl
  unfold o_ifgt at hk
  split at hk
  · exact lv_if_gt G.1 G.2 d ht (fun q => t _ _ _ (by rw [if_pos q] at hk; exact hk) H locs lsC hR hL hl) (fun q => k _ _ _ (by rw [if_neg q] at hk; exact hk) H locs lsC hR hL hl)
  · exact hk.elim
def o_ifne (T K : Ct) : Ct := fun ls st h => match st with | .int y :: r => (if y = 0 then K ls r h else T ls r h) | _ => False
theorem s_ifne {off : Int} {tgt : Nat} (G : Xb x cc) (d : decode cc pc = .ok (.ifCond .ne off, 3)) (ht : (pc : Int) + off = (tgt : Int)) (t : Snd x tgt T) (k : Snd x (pc + 3) K) : Snd x pc (o_ifne T K) := by
  intro ls st h hk H locs lsC hR hL hl
  unfold o_ifne at hk
  split at hk
  · exact lv_if_ne G.1 G.2 d ht (fun q => t _ _ _ (by rw [if_neg q] at hk; exact hk) H locs lsC hR hL hl) (fun q => k _ _ _ (by rw [if_pos q] at hk; exact hk) H locs lsC hR hL hl)
  · exact hk.elim
def o_ifge (T K : Ct) : Ct := fun ls st h => match st with | .int y :: r => (if y < 0 then K ls r h else T ls r h) | _ => False
theorem s_ifge {off : Int} {tgt : Nat} (G : Xb x cc) (d : decode cc pc = .ok (.ifCond .ge off, 3)) (ht : (pc : Int) + off = (tgt : Int)) (t : Snd x tgt T) (k : Snd x (pc + 3) K) : Snd x pc (o_ifge T K) := by
  intro ls st h hk H locs lsC hR hL hl
  unfold o_ifge at hk
  split at hk
  · exact lv_if_ge G.1 G.2 d ht (fun q => t _ _ _ (by rw [if_neg (by simpa [Int32.lt_iff_toInt_lt, Int32.le_iff_toInt_le] using q)] at hk; exact hk) H locs lsC hR hL hl) (fun q => k _ _ _ (by rw [if_pos (by simpa [Int32.lt_iff_toInt_lt, Int32.le_iff_toInt_le] using q)] at hk; exact hk) H locs lsC hR hL hl)
  · exact hk.elim
def o_ifle (T K : Ct) : Ct := fun ls st h => match st with | .int y :: r => (if 0 < y then K ls r h else T ls r h) | _ => False
theorem s_ifle {off : Int} {tgt : Nat} (G : Xb x cc) (d : decode cc pc = .ok (.ifCond .le off, 3)) (ht : (pc : Int) + off = (tgt : Int)) (t : Snd x tgt T) (k : Snd x (pc + 3) K) : Snd x pc (o_ifle T K) := by
  intro ls st h hk H locs lsC hR hL hl
  unfold o_ifle at hk
  split at hk
  · exact lv_if_le G.1 G.2 d ht (fun q => t _ _ _ (by rw [if_neg (by simpa [Int32.lt_iff_toInt_lt, Int32.le_iff_toInt_le] using q)] at hk; exact hk) H locs lsC hR hL hl) (fun q => k _ _ _ (by rw [if_pos (by simpa [Int32.lt_iff_toInt_lt, Int32.le_iff_toInt_le] using q)] at hk; exact hk) H locs lsC hR hL hl)
  · exact hk.elim
def o_icmpeq (T K : Ct) : Ct := fun ls st h => match st with | .int z :: .int y :: r => (if y = z then T ls r h else K ls r h) | _ => False
theorem s_icmpeq {off : Int} {tgt : Nat} (G : Xb x cc) (d : decode cc pc = .ok (.if_icmp .eq off, 3)) (ht : (pc : Int) + off = (tgt : Int)) (t : Snd x tgt T) (k : Snd x (pc + 3) K) : Snd x pc (o_icmpeq T K) := by
  intro ls st h hk H locs lsC hR hL hl
  unfold o_icmpeq at hk
  split at hk
  · exact lv_icmp_eq G.1 G.2 d ht (fun q => t _ _ _ (by rw [if_pos q] at hk; exact hk) H locs lsC hR hL hl) (fun q => k _ _ _ (by rw [if_neg q] at hk; exact hk) H locs lsC hR hL hl)
  · exact hk.elim
def o_icmplt (T K : Ct) : Ct := fun ls st h => match st with | .int z :: .int y :: r => (if y < z then T ls r h else K ls r h) | _ => False
theorem s_icmplt {off : Int} {tgt : Nat} (G : Xb x cc) (d : decode cc pc = .ok (.if_icmp .lt off, 3)) (ht : (pc : Int) + off = (tgt : Int)) (t : Snd x tgt T) (k : Snd x (pc + 3) K) : Snd x pc (o_icmplt T K) := by
  intro ls st h hk H locs lsC hR hL hl
  unfold o_icmplt at hk
  split at hk
  · exact lv_icmp_lt G.1 G.2 d ht (fun q => t _ _ _ (by rw [if_pos q] at hk; exact hk) H locs lsC hR hL hl) (fun q => k _ _ _ (by rw [if_neg q] at hk; exact hk) H locs lsC hR hL hl)
  · exact hk.elim
def o_icmpgt (T K : Ct) : Ct := fun ls st h => match st with | .int z :: .int y :: r => (if z < y then T ls r h else K ls r h) | _ => False
theorem s_icmpgt {off : Int} {tgt : Nat} (G : Xb x cc) (d : decode cc pc = .ok (.if_icmp .gt off, 3)) (ht : (pc : Int) + off = (tgt : Int)) (t : Snd x tgt T) (k : Snd x (pc + 3) K) : Snd x pc (o_icmpgt T K) := by
  intro ls st h hk H locs lsC hR hL hl
  unfold o_icmpgt at hk
  split at hk
  · exact lv_icmp_gt G.1 G.2 d ht (fun q => t _ _ _ (by rw [if_pos q] at hk; exact hk) H locs lsC hR hL hl) (fun q => k _ _ _ (by rw [if_neg q] at hk; exact hk) H locs lsC hR hL hl)
  · exact hk.elim
def o_icmpne (T K : Ct) : Ct := fun ls st h => match st with | .int z :: .int y :: r => (if y = z then K ls r h else T ls r h) | _ => False
theorem s_icmpne {off : Int} {tgt : Nat} (G : Xb x cc) (d : decode cc pc = .ok (.if_icmp .ne off, 3)) (ht : (pc : Int) + off = (tgt : Int)) (t : Snd x tgt T) (k : Snd x (pc + 3) K) : Snd x pc (o_icmpne T K) := by
  intro ls st h hk H locs lsC hR hL hl
  unfold o_icmpne at hk
  split at hk
  · exact lv_icmp_ne G.1 G.2 d ht (fun q => t _ _ _ (by rw [if_neg q] at hk; exact hk) H locs lsC hR hL hl) (fun q => k _ _ _ (by rw [if_pos q] at hk; exact hk) H locs lsC hR hL hl)
  · exact hk.elim
def o_icmpge (T K : Ct) : Ct := fun ls st h => match st with | .int z :: .int y :: r => (if y < z then K ls r h else T ls r h) | _ => False
theorem s_icmpge {off : Int} {tgt : Nat} (G : Xb x cc) (d : decode cc pc = .ok (.if_icmp .ge off, 3)) (ht : (pc : Int) + off = (tgt : Int)) (t : Snd x tgt T) (k : Snd x (pc + 3) K) : Snd x pc (o_icmpge T K) := by
  intro ls st h hk H locs lsC hR hL hl
  unfold o_icmpge at hk
  split at hk
  · exact lv_icmp_ge G.1 G.2 d ht (fun q => t _ _ _ (by rw [if_neg (by simpa [Int32.lt_iff_toInt_lt, Int32.le_iff_toInt_le] using q)] at hk; exact hk) H locs lsC hR hL hl) (fun q => k _ _ _ (by rw [if_pos (by simpa [Int32.lt_iff_toInt_lt, Int32.le_iff_toInt_le] using q)] at hk; exact hk) H locs lsC hR hL hl)
  · exact hk.elim
def o_icmple (T K : Ct) : Ct := fun ls st h => match st with | .int z :: .int y :: r => (if z < y then K ls r h else T ls r h) | _ => False
theorem s_icmple {off : Int} {tgt : Nat} (G : Xb x cc) (d : decode cc pc = .ok (.if_icmp .le off, 3)) (ht : (pc : Int) + off = (tgt : Int)) (t : Snd x tgt T) (k : Snd x (pc + 3) K) : Snd x pc (o_icmple T K) := by
  intro ls st h hk H locs lsC hR hL hl
  unfold o_icmple at hk
  split at hk
  · exact lv_icmp_le G.1 G.2 d ht (fun q => t _ _ _ (by rw [if_neg (by simpa [Int32.lt_iff_toInt_lt, Int32.le_iff_toInt_le] using q)] at hk; exact hk) H locs lsC hR hL hl) (fun q => k _ _ _ (by rw [if_pos (by simpa [Int32.lt_iff_toInt_lt, Int32.le_iff_toInt_le] using q)] at hk; exact hk) H locs lsC hR hL hl)
  · exact hk.elim
theorem s_goto {off : Int} {tgt : Nat} (G : Xb x cc) (d : decode cc pc = .ok (.goto off, 3)) (ht : (pc : Int) + off = (tgt : Int)) (t : Snd x tgt T) : Snd x pc T := by
  intro ls st h hk H locs lsC hR hL hl
  exact lv_goto G.1 G.2 d ht (t _ _ _ hk H locs lsC hR hL hl)
def o_ifnull (T K : Ct) : Ct := fun ls st h => match st with | .null :: r => T ls r h | .ref _ :: r => K ls r h | _ => False
theorem s_ifnull {off : Int} {tgt : Nat} (G : Xb x cc) (d : decode cc pc = .ok (.ifnull off, 3)) (ht : (pc : Int) + off = (tgt : Int)) (t : Snd x tgt T) (k : Snd x (pc + 3) K) : Snd x pc (o_ifnull T K) := by
  intro ls st h hk H locs lsC hR hL hl
  unfold o_ifnull at hk
  split at hk
  · exact lv_ifnullN G.1 G.2 d ht (t _ _ _ hk H locs lsC hR hL hl)
  · exact lv_ifnull G.1 G.2 d (k _ _ _ hk H locs lsC hR hL hl)
  · exact hk.elim
def o_ifnonnull (T K : Ct) : Ct := fun ls st h => match st with | .null :: r => K ls r h | .ref _ :: r => T ls r h | _ => False
theorem s_ifnonnull {off : Int} {tgt : Nat} (G : Xb x cc) (d : decode cc pc = .ok (.ifnonnull off, 3)) (ht : (pc : Int) + off = (tgt : Int)) (t : Snd x tgt T) (k : Snd x (pc + 3) K) : Snd x pc (o_ifnonnull T K) := by
  intro ls st h hk H locs lsC hR hL hl
  unfold o_ifnonnull at hk
  split at hk
  · exact lv_ifnonnullN G.1 G.2 d (k _ _ _ hk H locs lsC hR hL hl)
  · exact lv_ifnonnull G.1 G.2 d ht (t _ _ _ hk H locs lsC hR hL hl)
  · exact hk.elim
/-- a reference's value back to what it was -/
def unrf : Value → Option (Option Nat) := fun v => match v with | .null => some none | .ref a => some (some a) | _ => none
theorem unrf_eq {v : Value} {r : Option Nat} (h : unrf v = some r) : v = va_rf r := by
  cases v <;> simp [unrf] at h <;> subst h <;> rfl
def o_acmpeq (T K : Ct) : Ct := fun ls st h => match st with | w :: v :: r => (match unrf v, unrf w with | some p, some q => (if p = q then T ls r h else K ls r h) | _, _ => False) | _ => False
theorem s_acmpeq {off : Int} {tgt : Nat} (G : Xb x cc) (d : decode cc pc = .ok (.if_acmp .eq off, 3)) (ht : (pc : Int) + off = (tgt : Int)) (t : Snd x tgt T) (k : Snd x (pc + 3) K) : Snd x pc (o_acmpeq T K) := by
  intro ls st h hk H locs lsC hR hL hl
  unfold o_acmpeq at hk
  split at hk
  · split at hk
    · next h1 h2 =>
      rw [unrf_eq h1, unrf_eq h2]
      exact lv_acmp_eq G.1 G.2 d ht (fun q => t _ _ _ (by rw [if_pos q] at hk; exact hk) H locs lsC hR hL hl) (fun q => k _ _ _ (by rw [if_neg q] at hk; exact hk) H locs lsC hR hL hl)
    · exact hk.elim
  · exact hk.elim
def o_acmpne (T K : Ct) : Ct := fun ls st h => match st with | w :: v :: r => (match unrf v, unrf w with | some p, some q => (if p = q then K ls r h else T ls r h) | _, _ => False) | _ => False
theorem s_acmpne {off : Int} {tgt : Nat} (G : Xb x cc) (d : decode cc pc = .ok (.if_acmp .ne off, 3)) (ht : (pc : Int) + off = (tgt : Int)) (t : Snd x tgt T) (k : Snd x (pc + 3) K) : Snd x pc (o_acmpne T K) := by
  intro ls st h hk H locs lsC hR hL hl
  unfold o_acmpne at hk
  split at hk
  · split at hk
    · next h1 h2 =>
      rw [unrf_eq h1, unrf_eq h2]
      exact lv_acmp_ne G.1 G.2 d ht (fun q => t _ _ _ (by rw [if_neg q] at hk; exact hk) H locs lsC hR hL hl) (fun q => k _ _ _ (by rw [if_pos q] at hk; exact hk) H locs lsC hR hL hl)
    · exact hk.elim
  · exact hk.elim
end OPS
