set_option maxRecDepth 100000
theorem dX3_init_0 : decode cX3_init 0 = .ok (.aload_n 0, 1) := by decide +kernel
theorem dX3_init_1 : decode cX3_init 1 = .ok (.invokespecial 1, 3) := by decide +kernel
theorem dX3_init_4 : decode cX3_init 4 = .ok (.aload_n 0, 1) := by decide +kernel
theorem dX3_init_5 : decode cX3_init 5 = .ok (.bipush 8, 2) := by decide +kernel
theorem dX3_init_7 : decode cX3_init 7 = .ok (.newarray .int, 2) := by decide +kernel
theorem dX3_init_9 : decode cX3_init 9 = .ok (.putfield 7, 3) := by decide +kernel
theorem dX3_init_12 : decode cX3_init 12 = .ok (.return_, 1) := by decide +kernel
theorem dX3_cut_0 : decode cX3_cut 0 = .ok (.aload_n 0, 1) := by decide +kernel
theorem dX3_cut_1 : decode cX3_cut 1 = .ok (.iload_n 1, 1) := by decide +kernel
theorem dX3_cut_2 : decode cX3_cut 2 = .ok (.putfield 13, 3) := by decide +kernel
theorem dX3_cut_5 : decode cX3_cut 5 = .ok (.return_, 1) := by decide +kernel
theorem dX3_add_0 : decode cX3_add 0 = .ok (.aload_n 0, 1) := by decide +kernel
theorem dX3_add_1 : decode cX3_add 1 = .ok (.getfield 13, 3) := by decide +kernel
theorem dX3_add_4 : decode cX3_add 4 = .ok (.aload_n 0, 1) := by decide +kernel
theorem dX3_add_5 : decode cX3_add 5 = .ok (.getfield 7, 3) := by decide +kernel
theorem dX3_add_8 : decode cX3_add 8 = .ok (.arraylength, 1) := by decide +kernel
theorem dX3_add_9 : decode cX3_add 9 = .ok (.if_icmp .ne 42, 3) := by decide +kernel
theorem dX3_add_12 : decode cX3_add 12 = .ok (.iconst 2, 1) := by decide +kernel
theorem dX3_add_13 : decode cX3_add 13 = .ok (.aload_n 0, 1) := by decide +kernel
theorem dX3_add_14 : decode cX3_add 14 = .ok (.getfield 13, 3) := by decide +kernel
theorem dX3_add_17 : decode cX3_add 17 = .ok (.imul, 1) := by decide +kernel
theorem dX3_add_18 : decode cX3_add 18 = .ok (.newarray .int, 2) := by decide +kernel
theorem dX3_add_20 : decode cX3_add 20 = .ok (.astore_n 2, 1) := by decide +kernel
theorem dX3_add_21 : decode cX3_add 21 = .ok (.iconst 0, 1) := by decide +kernel
theorem dX3_add_22 : decode cX3_add 22 = .ok (.istore_n 3, 1) := by decide +kernel
theorem dX3_add_23 : decode cX3_add 23 = .ok (.iload_n 3, 1) := by decide +kernel
theorem dX3_add_24 : decode cX3_add 24 = .ok (.aload_n 0, 1) := by decide +kernel
theorem dX3_add_25 : decode cX3_add 25 = .ok (.getfield 13, 3) := by decide +kernel
theorem dX3_add_28 : decode cX3_add 28 = .ok (.if_icmp .ge 18, 3) := by decide +kernel
theorem dX3_add_31 : decode cX3_add 31 = .ok (.aload_n 2, 1) := by decide +kernel
theorem dX3_add_32 : decode cX3_add 32 = .ok (.iload_n 3, 1) := by decide +kernel
theorem dX3_add_33 : decode cX3_add 33 = .ok (.aload_n 0, 1) := by decide +kernel
theorem dX3_add_34 : decode cX3_add 34 = .ok (.getfield 7, 3) := by decide +kernel
theorem dX3_add_37 : decode cX3_add 37 = .ok (.iload_n 3, 1) := by decide +kernel
theorem dX3_add_38 : decode cX3_add 38 = .ok (.iaload, 1) := by decide +kernel
theorem dX3_add_39 : decode cX3_add 39 = .ok (.iastore, 1) := by decide +kernel
theorem dX3_add_40 : decode cX3_add 40 = .ok (.iinc 3 1, 3) := by decide +kernel
theorem dX3_add_43 : decode cX3_add 43 = .ok (.goto (-20), 3) := by decide +kernel
theorem dX3_add_46 : decode cX3_add 46 = .ok (.aload_n 0, 1) := by decide +kernel
theorem dX3_add_47 : decode cX3_add 47 = .ok (.aload_n 2, 1) := by decide +kernel
theorem dX3_add_48 : decode cX3_add 48 = .ok (.putfield 7, 3) := by decide +kernel
theorem dX3_add_51 : decode cX3_add 51 = .ok (.aload_n 0, 1) := by decide +kernel
theorem dX3_add_52 : decode cX3_add 52 = .ok (.getfield 7, 3) := by decide +kernel
theorem dX3_add_55 : decode cX3_add 55 = .ok (.aload_n 0, 1) := by decide +kernel
theorem dX3_add_56 : decode cX3_add 56 = .ok (.getfield 13, 3) := by decide +kernel
theorem dX3_add_59 : decode cX3_add 59 = .ok (.iload_n 1, 1) := by decide +kernel
theorem dX3_add_60 : decode cX3_add 60 = .ok (.iastore, 1) := by decide +kernel
theorem dX3_add_61 : decode cX3_add 61 = .ok (.aload_n 0, 1) := by decide +kernel
theorem dX3_add_62 : decode cX3_add 62 = .ok (.dup, 1) := by decide +kernel
theorem dX3_add_63 : decode cX3_add 63 = .ok (.getfield 13, 3) := by decide +kernel
theorem dX3_add_66 : decode cX3_add 66 = .ok (.iconst 1, 1) := by decide +kernel
theorem dX3_add_67 : decode cX3_add 67 = .ok (.iadd, 1) := by decide +kernel
theorem dX3_add_68 : decode cX3_add 68 = .ok (.putfield 13, 3) := by decide +kernel
theorem dX3_add_71 : decode cX3_add 71 = .ok (.return_, 1) := by decide +kernel
theorem dX3_at_0 : decode cX3_at 0 = .ok (.aload_n 0, 1) := by decide +kernel
theorem dX3_at_1 : decode cX3_at 1 = .ok (.getfield 7, 3) := by decide +kernel
theorem dX3_at_4 : decode cX3_at 4 = .ok (.iload_n 1, 1) := by decide +kernel
theorem dX3_at_5 : decode cX3_at 5 = .ok (.iaload, 1) := by decide +kernel
theorem dX3_at_6 : decode cX3_at 6 = .ok (.ireturn, 1) := by decide +kernel
theorem dX3_size_0 : decode cX3_size 0 = .ok (.aload_n 0, 1) := by decide +kernel
theorem dX3_size_1 : decode cX3_size 1 = .ok (.getfield 13, 3) := by decide +kernel
theorem dX3_size_4 : decode cX3_size 4 = .ok (.ireturn, 1) := by decide +kernel
theorem dX3_set_0 : decode cX3_set 0 = .ok (.aload_n 0, 1) := by decide +kernel
theorem dX3_set_1 : decode cX3_set 1 = .ok (.getfield 7, 3) := by decide +kernel
theorem dX3_set_4 : decode cX3_set 4 = .ok (.iload_n 1, 1) := by decide +kernel
theorem dX3_set_5 : decode cX3_set 5 = .ok (.iload_n 2, 1) := by decide +kernel
theorem dX3_set_6 : decode cX3_set 6 = .ok (.iastore, 1) := by decide +kernel
theorem dX3_set_7 : decode cX3_set 7 = .ok (.return_, 1) := by decide +kernel
theorem dX3_last_0 : decode cX3_last 0 = .ok (.aload_n 0, 1) := by decide +kernel
theorem dX3_last_1 : decode cX3_last 1 = .ok (.getfield 7, 3) := by decide +kernel
theorem dX3_last_4 : decode cX3_last 4 = .ok (.aload_n 0, 1) := by decide +kernel
theorem dX3_last_5 : decode cX3_last 5 = .ok (.getfield 13, 3) := by decide +kernel
theorem dX3_last_8 : decode cX3_last 8 = .ok (.iconst 1, 1) := by decide +kernel
theorem dX3_last_9 : decode cX3_last 9 = .ok (.isub, 1) := by decide +kernel
theorem dX3_last_10 : decode cX3_last 10 = .ok (.iaload, 1) := by decide +kernel
theorem dX3_last_11 : decode cX3_last 11 = .ok (.ireturn, 1) := by decide +kernel
theorem fpX3_7 {nm : String} : FP RX3 nm 7 3 0 (.array .int) := ⟨(RX3, TX3, 2), tyX3, rfl, rfl, in_X3, by decide, tyX3_ok, nmX3, rfl, Or.inl ⟨rfl, Or.inl q414⟩⟩
theorem fpX3_13 {nm : String} : FP RX3 nm 13 3 1 (.int) := ⟨(RX3, TX3, 2), tyX3, rfl, rfl, in_X3, by decide, tyX3_ok, nmX3, rfl, Or.inl ⟨rfl, Or.inl q415⟩⟩
theorem fdX3_13 : FD RX3 13 3 1 0 := ⟨(RX3, TX3, 2), tyX3, rfl, rfl, in_X3, by decide, Or.inl q415, rfl⟩
theorem fdX3_7 : FD RX3 7 3 0 2 := ⟨(RX3, TX3, 2), tyX3, rfl, rfl, in_X3, by decide, Or.inl q414, rfl⟩
/-! ModuleEngine$Row.<init>()V -/
def Row_init (σ : HS) (x0 : Nat) : Option (Unit × HS) :=
  ck (¬ x0 = 0) <|
  ck (lenok (8 : Int32)) <| newa σ 100 (8 : Int32) fun a1 σ2 =>
  ck (tg σ2 x0 = 4) <| bn (sR σ2 x0 0 a1) fun σ3 =>
  some ((), σ3)
theorem ctX3_init (x0 : Nat) : Ct yX3_init  cX3_init 1 none 1 24 eV [av x0] (fun σ => Row_init σ x0) := by
  refine Ct.of (own := RX3) (nm := "<init>") (desc := "()V") rfl (by decide) (Nat.le_of_ble_eq_true rfl) (by decide) (fun X σ => ?_)
  show G X RX3 "<init>" cX3_init 1 none 1 24 enV 0 [(0, av x0)] [] σ (Row_init σ x0)
  unfold Row_init
  refine g_aload_n 0 0 dX3_init_0 rfl rfl ?_
  refine g_objInit q413 (Nat.le_of_ble_eq_true rfl) (Nat.le_of_ble_eq_true rfl) dX3_init_1 ?_
  refine g_aload_n 0 0 dX3_init_4 rfl rfl ?_
  refine g_bipush (v := 8) dX3_init_5 (by decide) ?_
  refine g_na_int dX3_init_7 (fun a1 σ2 => ?_)
  refine g_putR fpX3_7 rfl dX3_init_9 (fun σ3 => ?_)
  exact g_return rfl dX3_init_12
/-! ModuleEngine$Row.cut(I)V -/
def Row_cut (σ : HS) (x0 : Nat) (x1 : Int32) : Option (Unit × HS) :=
  ck (tg σ x0 = 4) <| bn (sI σ x0 1 x1) fun σ1 =>
  some ((), σ1)
theorem ctX3_cut (x0 : Nat) (x1 : Int32) : Ct yX3_cut  cX3_cut 2 none 0 0 eV [av x0, iv x1] (fun σ => Row_cut σ x0 x1) := by
  refine Ct.of (own := RX3) (nm := "cut") (desc := "(I)V") rfl (by decide) (Nat.le_of_ble_eq_true rfl) (by decide) (fun X σ => ?_)
  show G X RX3 "cut" cX3_cut 2 none 0 0 enV 0 [(0, av x0), (1, iv x1)] [] σ (Row_cut σ x0 x1)
  unfold Row_cut
  refine g_aload_n 0 0 dX3_cut_0 rfl rfl ?_
  refine g_iload_n 1 1 dX3_cut_1 rfl rfl ?_
  refine g_putI fpX3_13 dX3_cut_2 (fun σ1 => ?_)
  exact g_return rfl dX3_cut_5
/-! ModuleEngine$Row.add(I)V -/
def Row_add_p51  (σ : HS) (x0 : Nat) (x1 : Int32) : Option (Unit × HS) :=
  ck (tg σ x0 = 4) <|
  ck (tg σ x0 = 4) <|
  ck (tg σ (gR σ x0 0) = 100 ∧ inb (gI σ x0 1) (ln σ (gR σ x0 0))) <| bn (sI σ (gR σ x0 0) (ix (gI σ x0 1)) x1) fun σ1 =>
  ck (tg σ1 x0 = 4) <|
  ck (tg σ1 x0 = 4) <| bn (sI σ1 x0 1 ((gI σ1 x0 1) + (1 : Int32))) fun σ2 =>
  some ((), σ2)
theorem gX3_add_p51 {X : CX}  (σ : HS) (x0 : Nat) (x1 : Int32) : G X RX3 "add" cX3_add 4 none 0 0 enV 51 [(0, av x0), (1, iv x1)] [] σ (Row_add_p51 σ x0 x1) := by
  unfold Row_add_p51
  refine g_aload_n 0 0 dX3_add_51 rfl rfl ?_
  refine g_getR fdX3_7 dX3_add_52 ?_
  refine g_aload_n 0 0 dX3_add_55 rfl rfl ?_
  refine g_getI fdX3_13 dX3_add_56 ?_
  refine g_iload_n 1 1 dX3_add_59 rfl rfl ?_
  refine g_iastore dX3_add_60 (fun σ1 => ?_)
  refine g_aload_n 0 0 dX3_add_61 rfl rfl ?_
  refine g_dup dX3_add_62 rfl ?_
  refine g_getI fdX3_13 dX3_add_63 ?_
  refine g_iconst (v := 1) dX3_add_66 (by decide) ?_
  refine g_iadd dX3_add_67 ?_
  refine g_putI fpX3_13 dX3_add_68 (fun σ2 => ?_)
  exact g_return rfl dX3_add_71
def Row_add_p23  : Nat → HS → Nat → Int32 → Nat → Int32 → Option (Unit × HS)
  | 0, _, _, _, _, _ => none
  | n + 1, σ, x0, x1, x2, x3 =>
    ck (tg σ x0 = 4) <|
    if (gI σ x0 1) ≤ x3 then (
      ck (tg σ x0 = 4) <| bn (sR σ x0 0 x2) fun σ1 =>
      Row_add_p51 σ1 x0 x1)
    else (
      ck (tg σ x0 = 4) <|
      ck (tg σ (gR σ x0 0) = 100 ∧ inb x3 (ln σ (gR σ x0 0))) <|
      ck (tg σ x2 = 100 ∧ inb x3 (ln σ x2)) <| bn (sI σ x2 (ix x3) (gI σ (gR σ x0 0) (ix x3))) fun σ2 =>
      bn (x3 + (1 : Int32)) fun y3 =>
      Row_add_p23 n σ2 x0 x1 x2 y3)
theorem gX3_add_p23 {X : CX}  : ∀ (n : Nat) (σ : HS) (x0 : Nat) (x1 : Int32) (x2 : Nat) (x3 : Int32), G X RX3 "add" cX3_add 4 none 0 0 enV 23 [(0, av x0), (1, iv x1), (2, av x2), (3, iv x3)] [] σ (Row_add_p23 n σ x0 x1 x2 x3)
  | 0, σ, x0, x1, x2, x3 => by rw [Row_add_p23]; exact G.nul
  | n + 1, σ, x0, x1, x2, x3 => by
    rw [Row_add_p23]
    refine g_iload_n 3 3 dX3_add_23 rfl rfl ?_
    refine g_aload_n 0 0 dX3_add_24 rfl rfl ?_
    refine g_getI fdX3_13 dX3_add_25 ?_
    refine g_icmp_ge 46 dX3_add_28 (by decide) ?_ ?_
    · refine g_aload_n 0 0 dX3_add_46 rfl rfl ?_
      refine g_aload_n 2 2 dX3_add_47 rfl rfl ?_
      refine g_putR fpX3_7 rfl dX3_add_48 (fun σ1 => ?_)
      refine G.sub [0, 1] rfl ?_
      exact gX3_add_p51 _ _ _
    · refine g_aload_n 2 2 dX3_add_31 rfl rfl ?_
      refine g_iload_n 3 3 dX3_add_32 rfl rfl ?_
      refine g_aload_n 0 0 dX3_add_33 rfl rfl ?_
      refine g_getR fdX3_7 dX3_add_34 ?_
      refine g_iload_n 3 3 dX3_add_37 rfl rfl ?_
      refine g_iaload dX3_add_38 ?_
      refine g_iastore dX3_add_39 (fun σ2 => ?_)
      refine g_iincB (w := 1) 3 dX3_add_40 rfl (by decide) (by decide) (fun _ => rfl) (fun y3 => ?_)
      refine g_goto 23 dX3_add_43 (by decide) ?_
      refine G.sub [1, 2, 3, 0] rfl ?_
      exact gX3_add_p23 n _ _ _ _ _
def Row_add (σ : HS) (x0 : Nat) (x1 : Int32) : Option (Unit × HS) :=
  ck (tg σ x0 = 4) <|
  ck (tg σ x0 = 4) <|
  ck (tg σ (gR σ x0 0) = 100) <|
  if (gI σ x0 1) = (nI (ln σ (gR σ x0 0))) then (
    ck (tg σ x0 = 4) <|
    ck (lenok ((2 : Int32) * (gI σ x0 1))) <| newa σ 100 ((2 : Int32) * (gI σ x0 1)) fun a1 σ2 =>
    Row_add_p23 FU σ2 x0 x1 a1 (0 : Int32))
  else (
    Row_add_p51 σ x0 x1)
theorem ctX3_add (x0 : Nat) (x1 : Int32) : Ct yX3_add  cX3_add 4 none 0 0 eV [av x0, iv x1] (fun σ => Row_add σ x0 x1) := by
  refine Ct.of (own := RX3) (nm := "add") (desc := "(I)V") rfl (by decide) (Nat.le_of_ble_eq_true rfl) (by decide) (fun X σ => ?_)
  show G X RX3 "add" cX3_add 4 none 0 0 enV 0 [(0, av x0), (1, iv x1)] [] σ (Row_add σ x0 x1)
  unfold Row_add
  refine g_aload_n 0 0 dX3_add_0 rfl rfl ?_
  refine g_getI fdX3_13 dX3_add_1 ?_
  refine g_aload_n 0 0 dX3_add_4 rfl rfl ?_
  refine g_getR fdX3_7 dX3_add_5 ?_
  refine g_alen 0 rfl dX3_add_8 ?_
  refine g_icmp_ne 51 dX3_add_9 (by decide) ?_ ?_
  · exact gX3_add_p51 _ _ _
  · refine g_iconst (v := 2) dX3_add_12 (by decide) ?_
    refine g_aload_n 0 0 dX3_add_13 rfl rfl ?_
    refine g_getI fdX3_13 dX3_add_14 ?_
    refine g_imul dX3_add_17 ?_
    refine g_na_int dX3_add_18 (fun a1 σ2 => ?_)
    refine g_astore_n 2 dX3_add_20 rfl (by decide) rfl ?_
    refine g_iconst (v := 0) dX3_add_21 (by decide) ?_
    refine g_istore_n 3 dX3_add_22 rfl (by decide) rfl ?_
    refine G.sub [2, 3, 1, 0] rfl ?_
    exact gX3_add_p23 FU _ _ _ _ _
/-! ModuleEngine$Row.at(I)I -/
def Row_at (σ : HS) (x0 : Nat) (x1 : Int32) : Option (Int32 × HS) :=
  ck (tg σ x0 = 4) <|
  ck (tg σ (gR σ x0 0) = 100 ∧ inb x1 (ln σ (gR σ x0 0))) <|
  some (gI σ (gR σ x0 0) (ix x1), σ)
theorem ctX3_at (x0 : Nat) (x1 : Int32) : Ct yX3_at  cX3_at 2 (some .int) 0 0 eI [av x0, iv x1] (fun σ => Row_at σ x0 x1) := by
  refine Ct.of (own := RX3) (nm := "at") (desc := "(I)I") rfl (by decide) (Nat.le_of_ble_eq_true rfl) (by decide) (fun X σ => ?_)
  show G X RX3 "at" cX3_at 2 (some .int) 0 0 enI 0 [(0, av x0), (1, iv x1)] [] σ (Row_at σ x0 x1)
  unfold Row_at
  refine g_aload_n 0 0 dX3_at_0 rfl rfl ?_
  refine g_getR fdX3_7 dX3_at_1 ?_
  refine g_iload_n 1 1 dX3_at_4 rfl rfl ?_
  refine g_iaload dX3_at_5 ?_
  exact g_ireturn rfl dX3_at_6
/-! ModuleEngine$Row.size()I -/
def Row_size (σ : HS) (x0 : Nat) : Option (Int32 × HS) :=
  ck (tg σ x0 = 4) <|
  some (gI σ x0 1, σ)
theorem ctX3_size (x0 : Nat) : Ct yX3_size  cX3_size 1 (some .int) 0 0 eI [av x0] (fun σ => Row_size σ x0) := by
  refine Ct.of (own := RX3) (nm := "size") (desc := "()I") rfl (by decide) (Nat.le_of_ble_eq_true rfl) (by decide) (fun X σ => ?_)
  show G X RX3 "size" cX3_size 1 (some .int) 0 0 enI 0 [(0, av x0)] [] σ (Row_size σ x0)
  unfold Row_size
  refine g_aload_n 0 0 dX3_size_0 rfl rfl ?_
  refine g_getI fdX3_13 dX3_size_1 ?_
  exact g_ireturn rfl dX3_size_4
/-! ModuleEngine$Row.set(II)V -/
def Row_set (σ : HS) (x0 : Nat) (x1 : Int32) (x2 : Int32) : Option (Unit × HS) :=
  ck (tg σ x0 = 4) <|
  ck (tg σ (gR σ x0 0) = 100 ∧ inb x1 (ln σ (gR σ x0 0))) <| bn (sI σ (gR σ x0 0) (ix x1) x2) fun σ1 =>
  some ((), σ1)
theorem ctX3_set (x0 : Nat) (x1 : Int32) (x2 : Int32) : Ct yX3_set  cX3_set 3 none 0 0 eV [av x0, iv x1, iv x2] (fun σ => Row_set σ x0 x1 x2) := by
  refine Ct.of (own := RX3) (nm := "set") (desc := "(II)V") rfl (by decide) (Nat.le_of_ble_eq_true rfl) (by decide) (fun X σ => ?_)
  show G X RX3 "set" cX3_set 3 none 0 0 enV 0 [(0, av x0), (1, iv x1), (2, iv x2)] [] σ (Row_set σ x0 x1 x2)
  unfold Row_set
  refine g_aload_n 0 0 dX3_set_0 rfl rfl ?_
  refine g_getR fdX3_7 dX3_set_1 ?_
  refine g_iload_n 1 1 dX3_set_4 rfl rfl ?_
  refine g_iload_n 2 2 dX3_set_5 rfl rfl ?_
  refine g_iastore dX3_set_6 (fun σ1 => ?_)
  exact g_return rfl dX3_set_7
/-! ModuleEngine$Row.last()I -/
def Row_last (σ : HS) (x0 : Nat) : Option (Int32 × HS) :=
  ck (tg σ x0 = 4) <|
  ck (tg σ x0 = 4) <|
  ck (tg σ (gR σ x0 0) = 100 ∧ inb ((gI σ x0 1) - (1 : Int32)) (ln σ (gR σ x0 0))) <|
  some (gI σ (gR σ x0 0) (ix ((gI σ x0 1) - (1 : Int32))), σ)
theorem ctX3_last (x0 : Nat) : Ct yX3_last  cX3_last 1 (some .int) 0 0 eI [av x0] (fun σ => Row_last σ x0) := by
  refine Ct.of (own := RX3) (nm := "last") (desc := "()I") rfl (by decide) (Nat.le_of_ble_eq_true rfl) (by decide) (fun X σ => ?_)
  show G X RX3 "last" cX3_last 1 (some .int) 0 0 enI 0 [(0, av x0)] [] σ (Row_last σ x0)
  unfold Row_last
  refine g_aload_n 0 0 dX3_last_0 rfl rfl ?_
  refine g_getR fdX3_7 dX3_last_1 ?_
  refine g_aload_n 0 0 dX3_last_4 rfl rfl ?_
  refine g_getI fdX3_13 dX3_last_5 ?_
  refine g_iconst (v := 1) dX3_last_8 (by decide) ?_
  refine g_isub dX3_last_9 ?_
  refine g_iaload dX3_last_10 ?_
  exact g_ireturn rfl dX3_last_11
