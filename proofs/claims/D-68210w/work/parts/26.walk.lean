set_option maxRecDepth 100000
theorem V.dX11_needMemory_0 : decode cX11_needMemory 0 = .ok (.aload_n 0, 1) := by decide +kernel
theorem V.dX11_needMemory_1 : decode cX11_needMemory 1 = .ok (.aload_n 0, 1) := by decide +kernel
theorem V.dX11_needMemory_2 : decode cX11_needMemory 2 = .ok (.getfield 44, 3) := by decide +kernel
theorem V.dX11_needMemory_5 : decode cX11_needMemory 5 = .ok (.getfield 245, 3) := by decide +kernel
theorem V.dX11_needMemory_8 : decode cX11_needMemory 8 = .ok (.ifCond .le 7, 3) := by decide +kernel
theorem V.dX11_needMemory_11 : decode cX11_needMemory 11 = .ok (.iconst 1, 1) := by decide +kernel
theorem V.dX11_needMemory_12 : decode cX11_needMemory 12 = .ok (.goto 4, 3) := by decide +kernel
theorem V.dX11_needMemory_15 : decode cX11_needMemory 15 = .ok (.iconst 0, 1) := by decide +kernel
theorem V.dX11_needMemory_16 : decode cX11_needMemory 16 = .ok (.bipush 9, 2) := by decide +kernel
theorem V.dX11_needMemory_18 : decode cX11_needMemory 18 = .ok (.invokevirtual 118, 3) := by decide +kernel
theorem V.dX11_needMemory_21 : decode cX11_needMemory 21 = .ok (.return_, 1) := by decide +kernel
theorem V.fdX11_245 : FD RX11 245 10 6 0 := ⟨(RX10, TX10, 8), tyX10, rfl, rfl, in_X10, by decide, Or.inr ⟨_, q790⟩, rfl⟩
/-! ModuleEngine$Checker.needMemory()V -/
def V.Chk_needMemory_p16  (σ : HS) (s0 : Int32) (s1 : Nat) : Option ((Nat ⊕ Unit) × HS) :=
  ck (tg σ s1 = 12) <| clT (Chk_need σ s1 s0 (9 : Int32)) fun _ σ1 =>
  some (.inr (), σ1)
theorem V.gX11_needMemory_p16 {X : CX}  (σ : HS) (s0 : Int32) (s1 : Nat) : G X RX11 "needMemory" cX11_needMemory 1 none 8 128 (enX enV (cxz X)) 16 [] [iv s0, av s1] σ (Chk_needMemory_p16 σ s0 s1) := by
  unfold Chk_needMemory_p16
  refine g_bipush (v := 9) dX11_needMemory_16 (by decide) ?_
  refine g_callVT (fc := fun sς => Chk_need sς s1 s0 (9 : Int32)) (ci := 11) (as := [iv s0, iv (9 : Int32)]) rfl rfl rfl q1746 qs73 q1744 mdX11_118 (ctX11_need s1 s0 (9 : Int32)) rfl (Nat.le_of_ble_eq_true rfl) (Nat.le_of_ble_eq_true rfl) (Nat.le_of_ble_eq_true rfl) pu_V (by decide) dX11_needMemory_18 (fun _ σ1 => ?_)
  exact g_return rfl dX11_needMemory_21
def V.Chk_needMemory (σ : HS) (x0 : Nat) : Option ((Nat ⊕ Unit) × HS) :=
  ck (tg σ x0 = 12) <|
  ck (tg σ (gR σ x0 1) = 11) <|
  if (gI σ (gR σ x0 1) 6) ≤ 0 then (
    Chk_needMemory_p16 σ (0 : Int32) x0)
  else (
    Chk_needMemory_p16 σ (1 : Int32) x0)
theorem V.ctX11_needMemory (x0 : Nat) : Ct yX11_needMemory  cX11_needMemory 1 none 8 128 eXV [av x0] (fun σ => Chk_needMemory σ x0) := by
  refine Ct.of (own := RX11) (nm := "needMemory") (desc := "()V") rfl (by decide) (Nat.le_of_ble_eq_true rfl) (by decide) (fun X σ => ?_)
  show G X RX11 "needMemory" cX11_needMemory 1 none 8 128 (enX enV (cxz X)) 0 [(0, av x0)] [] σ (Chk_needMemory σ x0)
  unfold Chk_needMemory
  refine g_aload_n 0 0 dX11_needMemory_0 rfl rfl ?_
  refine g_aload_n 0 0 dX11_needMemory_1 rfl rfl ?_
  refine g_getR fdX11_44 dX11_needMemory_2 ?_
  refine g_getI fdX11_245 dX11_needMemory_5 ?_
  refine g_if_le 15 dX11_needMemory_8 (by decide) ?_ ?_
  · refine g_iconst (v := 0) dX11_needMemory_15 (by decide) ?_
    refine G.sub [] rfl ?_
    exact gX11_needMemory_p16 _ _ _
  · refine g_iconst (v := 1) dX11_needMemory_11 (by decide) ?_
    refine g_goto 16 dX11_needMemory_12 (by decide) ?_
    refine G.sub [] rfl ?_
    exact gX11_needMemory_p16 _ _ _
theorem V.dX11_moved_0 : decode cX11_moved 0 = .ok (.iload_n 0, 1) := by decide +kernel
theorem V.dX11_moved_1 : decode cX11_moved 1 = .ok (.bipush 41, 2) := by decide +kernel
theorem V.dX11_moved_3 : decode cX11_moved 3 = .ok (.if_icmp .eq 21, 3) := by decide +kernel
theorem V.dX11_moved_6 : decode cX11_moved 6 = .ok (.iload_n 0, 1) := by decide +kernel
theorem V.dX11_moved_7 : decode cX11_moved 7 = .ok (.bipush 43, 2) := by decide +kernel
theorem V.dX11_moved_9 : decode cX11_moved 9 = .ok (.if_icmp .eq 15, 3) := by decide +kernel
theorem V.dX11_moved_12 : decode cX11_moved 12 = .ok (.iload_n 0, 1) := by decide +kernel
theorem V.dX11_moved_13 : decode cX11_moved 13 = .ok (.bipush 55, 2) := by decide +kernel
theorem V.dX11_moved_15 : decode cX11_moved 15 = .ok (.if_icmp .eq 9, 3) := by decide +kernel
theorem V.dX11_moved_18 : decode cX11_moved 18 = .ok (.iload_n 0, 1) := by decide +kernel
theorem V.dX11_moved_19 : decode cX11_moved 19 = .ok (.bipush 57, 2) := by decide +kernel
theorem V.dX11_moved_21 : decode cX11_moved 21 = .ok (.if_icmp .ne 5, 3) := by decide +kernel
theorem V.dX11_moved_24 : decode cX11_moved 24 = .ok (.iconst 3, 1) := by decide +kernel
theorem V.dX11_moved_25 : decode cX11_moved 25 = .ok (.ireturn, 1) := by decide +kernel
theorem V.dX11_moved_26 : decode cX11_moved 26 = .ok (.iload_n 0, 1) := by decide +kernel
theorem V.dX11_moved_27 : decode cX11_moved 27 = .ok (.bipush 40, 2) := by decide +kernel
theorem V.dX11_moved_29 : decode cX11_moved 29 = .ok (.if_icmp .eq 39, 3) := by decide +kernel
theorem V.dX11_moved_32 : decode cX11_moved 32 = .ok (.iload_n 0, 1) := by decide +kernel
theorem V.dX11_moved_33 : decode cX11_moved 33 = .ok (.bipush 42, 2) := by decide +kernel
theorem V.dX11_moved_35 : decode cX11_moved 35 = .ok (.if_icmp .eq 33, 3) := by decide +kernel
theorem V.dX11_moved_38 : decode cX11_moved 38 = .ok (.iload_n 0, 1) := by decide +kernel
theorem V.dX11_moved_39 : decode cX11_moved 39 = .ok (.bipush 52, 2) := by decide +kernel
theorem V.dX11_moved_41 : decode cX11_moved 41 = .ok (.if_icmp .eq 27, 3) := by decide +kernel
theorem V.dX11_moved_44 : decode cX11_moved 44 = .ok (.iload_n 0, 1) := by decide +kernel
theorem V.dX11_moved_45 : decode cX11_moved 45 = .ok (.bipush 53, 2) := by decide +kernel
theorem V.dX11_moved_47 : decode cX11_moved 47 = .ok (.if_icmp .eq 21, 3) := by decide +kernel
theorem V.dX11_moved_50 : decode cX11_moved 50 = .ok (.iload_n 0, 1) := by decide +kernel
theorem V.dX11_moved_51 : decode cX11_moved 51 = .ok (.bipush 54, 2) := by decide +kernel
theorem V.dX11_moved_53 : decode cX11_moved 53 = .ok (.if_icmp .eq 15, 3) := by decide +kernel
theorem V.dX11_moved_56 : decode cX11_moved 56 = .ok (.iload_n 0, 1) := by decide +kernel
theorem V.dX11_moved_57 : decode cX11_moved 57 = .ok (.bipush 56, 2) := by decide +kernel
theorem V.dX11_moved_59 : decode cX11_moved 59 = .ok (.if_icmp .eq 9, 3) := by decide +kernel
theorem V.dX11_moved_62 : decode cX11_moved 62 = .ok (.iload_n 0, 1) := by decide +kernel
theorem V.dX11_moved_63 : decode cX11_moved 63 = .ok (.bipush 62, 2) := by decide +kernel
theorem V.dX11_moved_65 : decode cX11_moved 65 = .ok (.if_icmp .ne 5, 3) := by decide +kernel
theorem V.dX11_moved_68 : decode cX11_moved 68 = .ok (.iconst 2, 1) := by decide +kernel
theorem V.dX11_moved_69 : decode cX11_moved 69 = .ok (.ireturn, 1) := by decide +kernel
theorem V.dX11_moved_70 : decode cX11_moved 70 = .ok (.iload_n 0, 1) := by decide +kernel
theorem V.dX11_moved_71 : decode cX11_moved 71 = .ok (.bipush 46, 2) := by decide +kernel
theorem V.dX11_moved_73 : decode cX11_moved 73 = .ok (.if_icmp .eq 33, 3) := by decide +kernel
theorem V.dX11_moved_76 : decode cX11_moved 76 = .ok (.iload_n 0, 1) := by decide +kernel
theorem V.dX11_moved_77 : decode cX11_moved 77 = .ok (.bipush 47, 2) := by decide +kernel
theorem V.dX11_moved_79 : decode cX11_moved 79 = .ok (.if_icmp .eq 27, 3) := by decide +kernel
theorem V.dX11_moved_82 : decode cX11_moved 82 = .ok (.iload_n 0, 1) := by decide +kernel
theorem V.dX11_moved_83 : decode cX11_moved 83 = .ok (.bipush 50, 2) := by decide +kernel
theorem V.dX11_moved_85 : decode cX11_moved 85 = .ok (.if_icmp .eq 21, 3) := by decide +kernel
theorem V.dX11_moved_88 : decode cX11_moved 88 = .ok (.iload_n 0, 1) := by decide +kernel
theorem V.dX11_moved_89 : decode cX11_moved 89 = .ok (.bipush 51, 2) := by decide +kernel
theorem V.dX11_moved_91 : decode cX11_moved 91 = .ok (.if_icmp .eq 15, 3) := by decide +kernel
theorem V.dX11_moved_94 : decode cX11_moved 94 = .ok (.iload_n 0, 1) := by decide +kernel
theorem V.dX11_moved_95 : decode cX11_moved 95 = .ok (.bipush 59, 2) := by decide +kernel
theorem V.dX11_moved_97 : decode cX11_moved 97 = .ok (.if_icmp .eq 9, 3) := by decide +kernel
theorem V.dX11_moved_100 : decode cX11_moved 100 = .ok (.iload_n 0, 1) := by decide +kernel
theorem V.dX11_moved_101 : decode cX11_moved 101 = .ok (.bipush 61, 2) := by decide +kernel
theorem V.dX11_moved_103 : decode cX11_moved 103 = .ok (.if_icmp .ne 7, 3) := by decide +kernel
theorem V.dX11_moved_106 : decode cX11_moved 106 = .ok (.iconst 1, 1) := by decide +kernel
theorem V.dX11_moved_107 : decode cX11_moved 107 = .ok (.goto 4, 3) := by decide +kernel
theorem V.dX11_moved_110 : decode cX11_moved 110 = .ok (.iconst 0, 1) := by decide +kernel
theorem V.dX11_moved_111 : decode cX11_moved 111 = .ok (.ireturn, 1) := by decide +kernel
/-! ModuleEngine$Checker.moved(I)I -/
def V.Chk_moved_p106  (σ : HS)  : Option (Int32 × HS) :=
  some ((1 : Int32), σ)
theorem V.gX11_moved_p106 {X : CX}  (σ : HS)  : G X RX11 "moved" cX11_moved 1 (some .int) 0 0 enI 106 [] [] σ (Chk_moved_p106 σ ) := by
  unfold Chk_moved_p106
  refine g_iconst (v := 1) dX11_moved_106 (by decide) ?_
  refine g_goto 111 dX11_moved_107 (by decide) ?_
  exact g_ireturn rfl dX11_moved_111
def V.Chk_moved (σ : HS) (x0 : Int32) : Option (Int32 × HS) :=
  if x0 = (41 : Int32) then (
    some ((3 : Int32), σ))
  else (
    if x0 = (43 : Int32) then (
      some ((3 : Int32), σ))
    else (
      if x0 = (55 : Int32) then (
        some ((3 : Int32), σ))
      else (
        if x0 = (57 : Int32) then (
          some ((3 : Int32), σ))
        else (
          if x0 = (40 : Int32) then (
            some ((2 : Int32), σ))
          else (
            if x0 = (42 : Int32) then (
              some ((2 : Int32), σ))
            else (
              if x0 = (52 : Int32) then (
                some ((2 : Int32), σ))
              else (
                if x0 = (53 : Int32) then (
                  some ((2 : Int32), σ))
                else (
                  if x0 = (54 : Int32) then (
                    some ((2 : Int32), σ))
                  else (
                    if x0 = (56 : Int32) then (
                      some ((2 : Int32), σ))
                    else (
                      if x0 = (62 : Int32) then (
                        some ((2 : Int32), σ))
                      else (
                        if x0 = (46 : Int32) then (
                          Chk_moved_p106 σ)
                        else (
                          if x0 = (47 : Int32) then (
                            Chk_moved_p106 σ)
                          else (
                            if x0 = (50 : Int32) then (
                              Chk_moved_p106 σ)
                            else (
                              if x0 = (51 : Int32) then (
                                Chk_moved_p106 σ)
                              else (
                                if x0 = (59 : Int32) then (
                                  Chk_moved_p106 σ)
                                else (
                                  if x0 = (61 : Int32) then (
                                    Chk_moved_p106 σ)
                                  else (
                                    some ((0 : Int32), σ))))))))))))))))))
theorem V.ctX11_moved (x0 : Int32) : Ct yX11_moved  cX11_moved 1 (some .int) 0 0 eI [iv x0] (fun σ => Chk_moved σ x0) := by
  refine Ct.of (own := RX11) (nm := "moved") (desc := "(I)I") rfl (by decide) (Nat.le_of_ble_eq_true rfl) (by decide) (fun X σ => ?_)
  show G X RX11 "moved" cX11_moved 1 (some .int) 0 0 enI 0 [(0, iv x0)] [] σ (Chk_moved σ x0)
  unfold Chk_moved
  refine g_iload_n 0 0 dX11_moved_0 rfl rfl ?_
  refine g_bipush (v := 41) dX11_moved_1 (by decide) ?_
  refine g_icmp_eq 24 dX11_moved_3 (by decide) ?_ ?_
  · refine g_iconst (v := 3) dX11_moved_24 (by decide) ?_
    exact g_ireturn rfl dX11_moved_25
  · refine g_iload_n 0 0 dX11_moved_6 rfl rfl ?_
    refine g_bipush (v := 43) dX11_moved_7 (by decide) ?_
    refine g_icmp_eq 24 dX11_moved_9 (by decide) ?_ ?_
    · refine g_iconst (v := 3) dX11_moved_24 (by decide) ?_
      exact g_ireturn rfl dX11_moved_25
    · refine g_iload_n 0 0 dX11_moved_12 rfl rfl ?_
      refine g_bipush (v := 55) dX11_moved_13 (by decide) ?_
      refine g_icmp_eq 24 dX11_moved_15 (by decide) ?_ ?_
      · refine g_iconst (v := 3) dX11_moved_24 (by decide) ?_
        exact g_ireturn rfl dX11_moved_25
      · refine g_iload_n 0 0 dX11_moved_18 rfl rfl ?_
        refine g_bipush (v := 57) dX11_moved_19 (by decide) ?_
        refine g_icmp_ne 26 dX11_moved_21 (by decide) ?_ ?_
        · refine g_iload_n 0 0 dX11_moved_26 rfl rfl ?_
          refine g_bipush (v := 40) dX11_moved_27 (by decide) ?_
          refine g_icmp_eq 68 dX11_moved_29 (by decide) ?_ ?_
          · refine g_iconst (v := 2) dX11_moved_68 (by decide) ?_
            exact g_ireturn rfl dX11_moved_69
          · refine g_iload_n 0 0 dX11_moved_32 rfl rfl ?_
            refine g_bipush (v := 42) dX11_moved_33 (by decide) ?_
            refine g_icmp_eq 68 dX11_moved_35 (by decide) ?_ ?_
            · refine g_iconst (v := 2) dX11_moved_68 (by decide) ?_
              exact g_ireturn rfl dX11_moved_69
            · refine g_iload_n 0 0 dX11_moved_38 rfl rfl ?_
              refine g_bipush (v := 52) dX11_moved_39 (by decide) ?_
              refine g_icmp_eq 68 dX11_moved_41 (by decide) ?_ ?_
              · refine g_iconst (v := 2) dX11_moved_68 (by decide) ?_
                exact g_ireturn rfl dX11_moved_69
              · refine g_iload_n 0 0 dX11_moved_44 rfl rfl ?_
                refine g_bipush (v := 53) dX11_moved_45 (by decide) ?_
                refine g_icmp_eq 68 dX11_moved_47 (by decide) ?_ ?_
                · refine g_iconst (v := 2) dX11_moved_68 (by decide) ?_
                  exact g_ireturn rfl dX11_moved_69
                · refine g_iload_n 0 0 dX11_moved_50 rfl rfl ?_
                  refine g_bipush (v := 54) dX11_moved_51 (by decide) ?_
                  refine g_icmp_eq 68 dX11_moved_53 (by decide) ?_ ?_
                  · refine g_iconst (v := 2) dX11_moved_68 (by decide) ?_
                    exact g_ireturn rfl dX11_moved_69
                  · refine g_iload_n 0 0 dX11_moved_56 rfl rfl ?_
                    refine g_bipush (v := 56) dX11_moved_57 (by decide) ?_
                    refine g_icmp_eq 68 dX11_moved_59 (by decide) ?_ ?_
                    · refine g_iconst (v := 2) dX11_moved_68 (by decide) ?_
                      exact g_ireturn rfl dX11_moved_69
                    · refine g_iload_n 0 0 dX11_moved_62 rfl rfl ?_
                      refine g_bipush (v := 62) dX11_moved_63 (by decide) ?_
                      refine g_icmp_ne 70 dX11_moved_65 (by decide) ?_ ?_
                      · refine g_iload_n 0 0 dX11_moved_70 rfl rfl ?_
                        refine g_bipush (v := 46) dX11_moved_71 (by decide) ?_
                        refine g_icmp_eq 106 dX11_moved_73 (by decide) ?_ ?_
                        · refine G.sub [] rfl ?_
                          exact gX11_moved_p106 _
                        · refine g_iload_n 0 0 dX11_moved_76 rfl rfl ?_
                          refine g_bipush (v := 47) dX11_moved_77 (by decide) ?_
                          refine g_icmp_eq 106 dX11_moved_79 (by decide) ?_ ?_
                          · refine G.sub [] rfl ?_
                            exact gX11_moved_p106 _
                          · refine g_iload_n 0 0 dX11_moved_82 rfl rfl ?_
                            refine g_bipush (v := 50) dX11_moved_83 (by decide) ?_
                            refine g_icmp_eq 106 dX11_moved_85 (by decide) ?_ ?_
                            · refine G.sub [] rfl ?_
                              exact gX11_moved_p106 _
                            · refine g_iload_n 0 0 dX11_moved_88 rfl rfl ?_
                              refine g_bipush (v := 51) dX11_moved_89 (by decide) ?_
                              refine g_icmp_eq 106 dX11_moved_91 (by decide) ?_ ?_
                              · refine G.sub [] rfl ?_
                                exact gX11_moved_p106 _
                              · refine g_iload_n 0 0 dX11_moved_94 rfl rfl ?_
                                refine g_bipush (v := 59) dX11_moved_95 (by decide) ?_
                                refine g_icmp_eq 106 dX11_moved_97 (by decide) ?_ ?_
                                · refine G.sub [] rfl ?_
                                  exact gX11_moved_p106 _
                                · refine g_iload_n 0 0 dX11_moved_100 rfl rfl ?_
                                  refine g_bipush (v := 61) dX11_moved_101 (by decide) ?_
                                  refine g_icmp_ne 110 dX11_moved_103 (by decide) ?_ ?_
                                  · refine g_iconst (v := 0) dX11_moved_110 (by decide) ?_
                                    exact g_ireturn rfl dX11_moved_111
                                  · refine G.sub [] rfl ?_
                                    exact gX11_moved_p106 _
                      · refine g_iconst (v := 2) dX11_moved_68 (by decide) ?_
                        exact g_ireturn rfl dX11_moved_69
        · refine g_iconst (v := 3) dX11_moved_24 (by decide) ?_
          exact g_ireturn rfl dX11_moved_25
theorem V.dX11_movedType_0 : decode cX11_movedType 0 = .ok (.iload_n 0, 1) := by decide +kernel
theorem V.dX11_movedType_1 : decode cX11_movedType 1 = .ok (.bipush 42, 2) := by decide +kernel
theorem V.dX11_movedType_3 : decode cX11_movedType 3 = .ok (.if_icmp .eq 9, 3) := by decide +kernel
theorem V.dX11_movedType_6 : decode cX11_movedType 6 = .ok (.iload_n 0, 1) := by decide +kernel
theorem V.dX11_movedType_7 : decode cX11_movedType 7 = .ok (.bipush 56, 2) := by decide +kernel
theorem V.dX11_movedType_9 : decode cX11_movedType 9 = .ok (.if_icmp .ne 6, 3) := by decide +kernel
theorem V.dX11_movedType_12 : decode cX11_movedType 12 = .ok (.bipush 125, 2) := by decide +kernel
theorem V.dX11_movedType_14 : decode cX11_movedType 14 = .ok (.ireturn, 1) := by decide +kernel
theorem V.dX11_movedType_15 : decode cX11_movedType 15 = .ok (.iload_n 0, 1) := by decide +kernel
theorem V.dX11_movedType_16 : decode cX11_movedType 16 = .ok (.bipush 43, 2) := by decide +kernel
theorem V.dX11_movedType_18 : decode cX11_movedType 18 = .ok (.if_icmp .eq 9, 3) := by decide +kernel
theorem V.dX11_movedType_21 : decode cX11_movedType 21 = .ok (.iload_n 0, 1) := by decide +kernel
theorem V.dX11_movedType_22 : decode cX11_movedType 22 = .ok (.bipush 57, 2) := by decide +kernel
theorem V.dX11_movedType_24 : decode cX11_movedType 24 = .ok (.if_icmp .ne 6, 3) := by decide +kernel
theorem V.dX11_movedType_27 : decode cX11_movedType 27 = .ok (.bipush 124, 2) := by decide +kernel
theorem V.dX11_movedType_29 : decode cX11_movedType 29 = .ok (.ireturn, 1) := by decide +kernel
theorem V.dX11_movedType_30 : decode cX11_movedType 30 = .ok (.iload_n 0, 1) := by decide +kernel
theorem V.dX11_movedType_31 : decode cX11_movedType 31 = .ok (.bipush 41, 2) := by decide +kernel
theorem V.dX11_movedType_33 : decode cX11_movedType 33 = .ok (.if_icmp .eq 27, 3) := by decide +kernel
theorem V.dX11_movedType_36 : decode cX11_movedType 36 = .ok (.iload_n 0, 1) := by decide +kernel
theorem V.dX11_movedType_37 : decode cX11_movedType 37 = .ok (.bipush 47, 2) := by decide +kernel
theorem V.dX11_movedType_39 : decode cX11_movedType 39 = .ok (.if_icmp .le 9, 3) := by decide +kernel
theorem V.dX11_movedType_42 : decode cX11_movedType 42 = .ok (.iload_n 0, 1) := by decide +kernel
theorem V.dX11_movedType_43 : decode cX11_movedType 43 = .ok (.bipush 54, 2) := by decide +kernel
theorem V.dX11_movedType_45 : decode cX11_movedType 45 = .ok (.if_icmp .lt 15, 3) := by decide +kernel
theorem V.dX11_movedType_48 : decode cX11_movedType 48 = .ok (.iload_n 0, 1) := by decide +kernel
theorem V.dX11_movedType_49 : decode cX11_movedType 49 = .ok (.bipush 55, 2) := by decide +kernel
theorem V.dX11_movedType_51 : decode cX11_movedType 51 = .ok (.if_icmp .eq 9, 3) := by decide +kernel
theorem V.dX11_movedType_54 : decode cX11_movedType 54 = .ok (.iload_n 0, 1) := by decide +kernel
theorem V.dX11_movedType_55 : decode cX11_movedType 55 = .ok (.bipush 59, 2) := by decide +kernel
theorem V.dX11_movedType_57 : decode cX11_movedType 57 = .ok (.if_icmp .le 8, 3) := by decide +kernel
theorem V.dX11_movedType_60 : decode cX11_movedType 60 = .ok (.bipush 126, 2) := by decide +kernel
theorem V.dX11_movedType_62 : decode cX11_movedType 62 = .ok (.goto 5, 3) := by decide +kernel
theorem V.dX11_movedType_65 : decode cX11_movedType 65 = .ok (.bipush 127, 2) := by decide +kernel
theorem V.dX11_movedType_67 : decode cX11_movedType 67 = .ok (.ireturn, 1) := by decide +kernel
/-! ModuleEngine$Checker.movedType(I)I -/
def V.Chk_movedType_p60  (σ : HS)  : Option (Int32 × HS) :=
  some ((126 : Int32), σ)
theorem V.gX11_movedType_p60 {X : CX}  (σ : HS)  : G X RX11 "movedType" cX11_movedType 1 (some .int) 0 0 enI 60 [] [] σ (Chk_movedType_p60 σ ) := by
  unfold Chk_movedType_p60
  refine g_bipush (v := 126) dX11_movedType_60 (by decide) ?_
  refine g_goto 67 dX11_movedType_62 (by decide) ?_
  exact g_ireturn rfl dX11_movedType_67
def V.Chk_movedType_p48  (σ : HS) (x0 : Int32) : Option (Int32 × HS) :=
  if x0 = (55 : Int32) then (
    Chk_movedType_p60 σ)
  else (
    if x0 ≤ (59 : Int32) then (
      some ((127 : Int32), σ))
    else (
      Chk_movedType_p60 σ))
theorem V.gX11_movedType_p48 {X : CX}  (σ : HS) (x0 : Int32) : G X RX11 "movedType" cX11_movedType 1 (some .int) 0 0 enI 48 [(0, iv x0)] [] σ (Chk_movedType_p48 σ x0) := by
  unfold Chk_movedType_p48
  refine g_iload_n 0 0 dX11_movedType_48 rfl rfl ?_
  refine g_bipush (v := 55) dX11_movedType_49 (by decide) ?_
  refine g_icmp_eq 60 dX11_movedType_51 (by decide) ?_ ?_
  · refine G.sub [] rfl ?_
    exact gX11_movedType_p60 _
  · refine g_iload_n 0 0 dX11_movedType_54 rfl rfl ?_
    refine g_bipush (v := 59) dX11_movedType_55 (by decide) ?_
    refine g_icmp_le 65 dX11_movedType_57 (by decide) ?_ ?_
    · refine g_bipush (v := 127) dX11_movedType_65 (by decide) ?_
      exact g_ireturn rfl dX11_movedType_67
    · refine G.sub [] rfl ?_
      exact gX11_movedType_p60 _
def V.Chk_movedType (σ : HS) (x0 : Int32) : Option (Int32 × HS) :=
  if x0 = (42 : Int32) then (
    some ((125 : Int32), σ))
  else (
    if x0 = (56 : Int32) then (
      some ((125 : Int32), σ))
    else (
      if x0 = (43 : Int32) then (
        some ((124 : Int32), σ))
      else (
        if x0 = (57 : Int32) then (
          some ((124 : Int32), σ))
        else (
          if x0 = (41 : Int32) then (
            Chk_movedType_p60 σ)
          else (
            if x0 ≤ (47 : Int32) then (
              Chk_movedType_p48 σ x0)
            else (
              if x0 < (54 : Int32) then (
                Chk_movedType_p60 σ)
              else (
                Chk_movedType_p48 σ x0)))))))
theorem V.ctX11_movedType (x0 : Int32) : Ct yX11_movedType  cX11_movedType 1 (some .int) 0 0 eI [iv x0] (fun σ => Chk_movedType σ x0) := by
  refine Ct.of (own := RX11) (nm := "movedType") (desc := "(I)I") rfl (by decide) (Nat.le_of_ble_eq_true rfl) (by decide) (fun X σ => ?_)
  show G X RX11 "movedType" cX11_movedType 1 (some .int) 0 0 enI 0 [(0, iv x0)] [] σ (Chk_movedType σ x0)
  unfold Chk_movedType
  refine g_iload_n 0 0 dX11_movedType_0 rfl rfl ?_
  refine g_bipush (v := 42) dX11_movedType_1 (by decide) ?_
  refine g_icmp_eq 12 dX11_movedType_3 (by decide) ?_ ?_
  · refine g_bipush (v := 125) dX11_movedType_12 (by decide) ?_
    exact g_ireturn rfl dX11_movedType_14
  · refine g_iload_n 0 0 dX11_movedType_6 rfl rfl ?_
    refine g_bipush (v := 56) dX11_movedType_7 (by decide) ?_
    refine g_icmp_ne 15 dX11_movedType_9 (by decide) ?_ ?_
    · refine g_iload_n 0 0 dX11_movedType_15 rfl rfl ?_
      refine g_bipush (v := 43) dX11_movedType_16 (by decide) ?_
      refine g_icmp_eq 27 dX11_movedType_18 (by decide) ?_ ?_
      · refine g_bipush (v := 124) dX11_movedType_27 (by decide) ?_
        exact g_ireturn rfl dX11_movedType_29
      · refine g_iload_n 0 0 dX11_movedType_21 rfl rfl ?_
        refine g_bipush (v := 57) dX11_movedType_22 (by decide) ?_
        refine g_icmp_ne 30 dX11_movedType_24 (by decide) ?_ ?_
        · refine g_iload_n 0 0 dX11_movedType_30 rfl rfl ?_
          refine g_bipush (v := 41) dX11_movedType_31 (by decide) ?_
          refine g_icmp_eq 60 dX11_movedType_33 (by decide) ?_ ?_
          · refine G.sub [] rfl ?_
            exact gX11_movedType_p60 _
          · refine g_iload_n 0 0 dX11_movedType_36 rfl rfl ?_
            refine g_bipush (v := 47) dX11_movedType_37 (by decide) ?_
            refine g_icmp_le 48 dX11_movedType_39 (by decide) ?_ ?_
            · exact gX11_movedType_p48 _ _
            · refine g_iload_n 0 0 dX11_movedType_42 rfl rfl ?_
              refine g_bipush (v := 54) dX11_movedType_43 (by decide) ?_
              refine g_icmp_lt 60 dX11_movedType_45 (by decide) ?_ ?_
              · refine G.sub [] rfl ?_
                exact gX11_movedType_p60 _
              · exact gX11_movedType_p48 _ _
        · refine g_bipush (v := 124) dX11_movedType_27 (by decide) ?_
          exact g_ireturn rfl dX11_movedType_29
    · refine g_bipush (v := 125) dX11_movedType_12 (by decide) ?_
      exact g_ireturn rfl dX11_movedType_14
theorem V.dX11_moves_0 : decode cX11_moves 0 = .ok (.aload_n 0, 1) := by decide +kernel
theorem V.dX11_moves_1 : decode cX11_moves 1 = .ok (.invokevirtual 248, 3) := by decide +kernel
theorem V.dX11_moves_4 : decode cX11_moves 4 = .ok (.aload_n 0, 1) := by decide +kernel
theorem V.dX11_moves_5 : decode cX11_moves 5 = .ok (.iload_n 2, 1) := by decide +kernel
theorem V.dX11_moves_6 : decode cX11_moves 6 = .ok (.invokestatic 114, 3) := by decide +kernel
theorem V.dX11_moves_9 : decode cX11_moves 9 = .ok (.iload_n 1, 1) := by decide +kernel
theorem V.dX11_moves_10 : decode cX11_moves 10 = .ok (.invokestatic 251, 3) := by decide +kernel
theorem V.dX11_moves_13 : decode cX11_moves 13 = .ok (.i2l, 1) := by decide +kernel
theorem V.dX11_moves_14 : decode cX11_moves 14 = .ok (.lcmp, 1) := by decide +kernel
theorem V.dX11_moves_15 : decode cX11_moves 15 = .ok (.ifCond .gt 7, 3) := by decide +kernel
theorem V.dX11_moves_18 : decode cX11_moves 18 = .ok (.iconst 1, 1) := by decide +kernel
theorem V.dX11_moves_19 : decode cX11_moves 19 = .ok (.goto 4, 3) := by decide +kernel
theorem V.dX11_moves_22 : decode cX11_moves 22 = .ok (.iconst 0, 1) := by decide +kernel
theorem V.dX11_moves_23 : decode cX11_moves 23 = .ok (.bipush 10, 2) := by decide +kernel
theorem V.dX11_moves_25 : decode cX11_moves 25 = .ok (.invokevirtual 118, 3) := by decide +kernel
theorem V.dX11_moves_28 : decode cX11_moves 28 = .ok (.iload_n 1, 1) := by decide +kernel
theorem V.dX11_moves_29 : decode cX11_moves 29 = .ok (.bipush 53, 2) := by decide +kernel
theorem V.dX11_moves_31 : decode cX11_moves 31 = .ok (.if_icmp .le 12, 3) := by decide +kernel
theorem V.dX11_moves_34 : decode cX11_moves 34 = .ok (.aload_n 0, 1) := by decide +kernel
theorem V.dX11_moves_35 : decode cX11_moves 35 = .ok (.iload_n 1, 1) := by decide +kernel
theorem V.dX11_moves_36 : decode cX11_moves 36 = .ok (.invokestatic 254, 3) := by decide +kernel
theorem V.dX11_moves_39 : decode cX11_moves 39 = .ok (.invokevirtual 149, 3) := by decide +kernel
theorem V.dX11_moves_42 : decode cX11_moves 42 = .ok (.pop, 1) := by decide +kernel
theorem V.dX11_moves_43 : decode cX11_moves 43 = .ok (.aload_n 0, 1) := by decide +kernel
theorem V.dX11_moves_44 : decode cX11_moves 44 = .ok (.bipush 127, 2) := by decide +kernel
theorem V.dX11_moves_46 : decode cX11_moves 46 = .ok (.invokevirtual 149, 3) := by decide +kernel
theorem V.dX11_moves_49 : decode cX11_moves 49 = .ok (.pop, 1) := by decide +kernel
theorem V.dX11_moves_50 : decode cX11_moves 50 = .ok (.iload_n 1, 1) := by decide +kernel
theorem V.dX11_moves_51 : decode cX11_moves 51 = .ok (.bipush 54, 2) := by decide +kernel
theorem V.dX11_moves_53 : decode cX11_moves 53 = .ok (.if_icmp .ge 11, 3) := by decide +kernel
theorem V.dX11_moves_56 : decode cX11_moves 56 = .ok (.aload_n 0, 1) := by decide +kernel
theorem V.dX11_moves_57 : decode cX11_moves 57 = .ok (.iload_n 1, 1) := by decide +kernel
theorem V.dX11_moves_58 : decode cX11_moves 58 = .ok (.invokestatic 254, 3) := by decide +kernel
theorem V.dX11_moves_61 : decode cX11_moves 61 = .ok (.invokevirtual 152, 3) := by decide +kernel
theorem V.dX11_moves_64 : decode cX11_moves 64 = .ok (.return_, 1) := by decide +kernel
theorem V.mdX11_248 : MD RX11 248 yX11_needMemory cX11_needMemory 1 none 0 := ⟨Or.inl q1987, q371, q1990, by decide, by decide, by decide +kernel⟩
theorem V.mdX11_251 : MD RX11 251 yX11_moved cX11_moved 1 (some .int) 1 := ⟨Or.inl q1991, q371, q1993, by decide, by decide, by decide +kernel⟩
theorem V.mdX11_254 : MD RX11 254 yX11_movedType cX11_movedType 1 (some .int) 1 := ⟨Or.inl q1994, q371, q1996, by decide, by decide, by decide +kernel⟩
/-! ModuleEngine$Checker.moves(II)V -/
def V.Chk_moves_p43  (σ : HS) (x0 : Nat) (x1 : Int32) : Option ((Nat ⊕ Unit) × HS) :=
  ck (tg σ x0 = 12) <| clT (Chk_take σ x0 (127 : Int32)) fun r2 σ1 =>
  if (54 : Int32) ≤ x1 then (
    some (.inr (), σ1))
  else (
    cl (Chk_movedType σ1 x1) fun r4 σ3 =>
    ck (tg σ3 x0 = 12) <| clT (Chk_give σ3 x0 r4) fun _ σ5 =>
    some (.inr (), σ5))
theorem V.gX11_moves_p43 {X : CX}  (σ : HS) (x0 : Nat) (x1 : Int32) : G X RX11 "moves" cX11_moves 3 none 10 171 (enX enV (cxz X)) 43 [(0, av x0), (1, iv x1)] [] σ (Chk_moves_p43 σ x0 x1) := by
  unfold Chk_moves_p43
  refine g_aload_n 0 0 dX11_moves_43 rfl rfl ?_
  refine g_bipush (v := 127) dX11_moves_44 (by decide) ?_
  refine g_callVT (fc := fun sς => Chk_take sς x0 (127 : Int32)) (ci := 11) (as := [iv (127 : Int32)]) rfl rfl rfl q1837 qs80 q1835 mdX11_149 (ctX11_take x0 (127 : Int32)) rfl (Nat.le_of_ble_eq_true rfl) (Nat.le_of_ble_eq_true rfl) (Nat.le_of_ble_eq_true rfl) pu_I (by decide) dX11_moves_46 (fun r2 σ1 => ?_)
  refine g_pop dX11_moves_49 rfl ?_
  refine g_iload_n 1 1 dX11_moves_50 rfl rfl ?_
  refine g_bipush (v := 54) dX11_moves_51 (by decide) ?_
  refine g_icmp_ge 64 dX11_moves_53 (by decide) ?_ ?_
  · exact g_return rfl dX11_moves_64
  · refine g_aload_n 0 0 dX11_moves_56 rfl rfl ?_
    refine g_iload_n 1 1 dX11_moves_57 rfl rfl ?_
    refine g_callS (fc := fun sς => Chk_movedType sς x1) (as := [iv x1]) q1995 mdX11_254 (ctX11_movedType x1) rfl (Nat.le_of_ble_eq_true rfl) (Nat.le_of_ble_eq_true rfl) (Nat.le_of_ble_eq_true rfl) pu_I dX11_moves_58 (fun r4 σ3 => ?_)
    refine g_callVT (fc := fun sς => Chk_give sς x0 r4) (ci := 11) (as := [iv r4]) rfl rfl rfl q1857 qs85 q1855 mdX11_152 (ctX11_give x0 r4) rfl (Nat.le_of_ble_eq_true rfl) (Nat.le_of_ble_eq_true rfl) (Nat.le_of_ble_eq_true rfl) pu_V (by decide) dX11_moves_61 (fun _ σ5 => ?_)
    exact g_return rfl dX11_moves_64
def V.Chk_moves_p23  (σ : HS) (x0 : Nat) (x1 : Int32) (s0 : Int32) (s1 : Nat) : Option ((Nat ⊕ Unit) × HS) :=
  ck (tg σ s1 = 12) <| clT (Chk_need σ s1 s0 (10 : Int32)) fun _ σ1 =>
  if x1 ≤ (53 : Int32) then (
    Chk_moves_p43 σ1 x0 x1)
  else (
    cl (Chk_movedType σ1 x1) fun r3 σ2 =>
    ck (tg σ2 x0 = 12) <| clT (Chk_take σ2 x0 r3) fun r5 σ4 =>
    Chk_moves_p43 σ4 x0 x1)
theorem V.gX11_moves_p23 {X : CX}  (σ : HS) (x0 : Nat) (x1 : Int32) (s0 : Int32) (s1 : Nat) : G X RX11 "moves" cX11_moves 3 none 10 171 (enX enV (cxz X)) 23 [(0, av x0), (1, iv x1)] [iv s0, av s1] σ (Chk_moves_p23 σ x0 x1 s0 s1) := by
  unfold Chk_moves_p23
  refine g_bipush (v := 10) dX11_moves_23 (by decide) ?_
  refine g_callVT (fc := fun sς => Chk_need sς s1 s0 (10 : Int32)) (ci := 11) (as := [iv s0, iv (10 : Int32)]) rfl rfl rfl q1746 qs73 q1744 mdX11_118 (ctX11_need s1 s0 (10 : Int32)) rfl (Nat.le_of_ble_eq_true rfl) (Nat.le_of_ble_eq_true rfl) (Nat.le_of_ble_eq_true rfl) pu_V (by decide) dX11_moves_25 (fun _ σ1 => ?_)
  refine g_iload_n 1 1 dX11_moves_28 rfl rfl ?_
  refine g_bipush (v := 53) dX11_moves_29 (by decide) ?_
  refine g_icmp_le 43 dX11_moves_31 (by decide) ?_ ?_
  · exact gX11_moves_p43 _ _ _
  · refine g_aload_n 0 0 dX11_moves_34 rfl rfl ?_
    refine g_iload_n 1 1 dX11_moves_35 rfl rfl ?_
    refine g_callS (fc := fun sς => Chk_movedType sς x1) (as := [iv x1]) q1995 mdX11_254 (ctX11_movedType x1) rfl (Nat.le_of_ble_eq_true rfl) (Nat.le_of_ble_eq_true rfl) (Nat.le_of_ble_eq_true rfl) pu_I dX11_moves_36 (fun r3 σ2 => ?_)
    refine g_callVT (fc := fun sς => Chk_take sς x0 r3) (ci := 11) (as := [iv r3]) rfl rfl rfl q1837 qs80 q1835 mdX11_149 (ctX11_take x0 r3) rfl (Nat.le_of_ble_eq_true rfl) (Nat.le_of_ble_eq_true rfl) (Nat.le_of_ble_eq_true rfl) pu_I (by decide) dX11_moves_39 (fun r5 σ4 => ?_)
    refine g_pop dX11_moves_42 rfl ?_
    exact gX11_moves_p43 _ _ _
def V.Chk_moves (σ : HS) (x0 : Nat) (x1 : Int32) (x2 : Int32) : Option ((Nat ⊕ Unit) × HS) :=
  ck (tg σ x0 = 12) <| clT (Chk_needMemory σ x0 ) fun _ σ1 =>
  cl (Chk_wide σ1 x2) fun r3 σ2 =>
  cl (Chk_moved σ2 x1) fun r5 σ4 =>
  if r5.toInt64 < r3 then (
    Chk_moves_p23 σ4 x0 x1 (0 : Int32) x0)
  else (
    Chk_moves_p23 σ4 x0 x1 (1 : Int32) x0)
theorem V.ctX11_moves (x0 : Nat) (x1 : Int32) (x2 : Int32) : Ct yX11_moves  cX11_moves 3 none 10 171 eXV [av x0, iv x1, iv x2] (fun σ => Chk_moves σ x0 x1 x2) := by
  refine Ct.of (own := RX11) (nm := "moves") (desc := "(II)V") rfl (by decide) (Nat.le_of_ble_eq_true rfl) (by decide) (fun X σ => ?_)
  show G X RX11 "moves" cX11_moves 3 none 10 171 (enX enV (cxz X)) 0 [(0, av x0), (1, iv x1), (2, iv x2)] [] σ (Chk_moves σ x0 x1 x2)
  unfold Chk_moves
  refine g_aload_n 0 0 dX11_moves_0 rfl rfl ?_
  refine g_callVT (fc := fun sς => Chk_needMemory sς x0 ) (ci := 11) (as := []) rfl rfl rfl q1989 qs111 q1987 mdX11_248 (ctX11_needMemory x0 ) rfl (Nat.le_of_ble_eq_true rfl) (Nat.le_of_ble_eq_true rfl) (Nat.le_of_ble_eq_true rfl) pu_V (by decide) dX11_moves_1 (fun _ σ1 => ?_)
  refine g_aload_n 0 0 dX11_moves_4 rfl rfl ?_
  refine g_iload_n 2 2 dX11_moves_5 rfl rfl ?_
  refine g_callS (fc := fun sς => Chk_wide sς x2) (as := [iv x2]) q1919 mdX11_114 (ctX11_wide x2) rfl (Nat.le_of_ble_eq_true rfl) (Nat.le_of_ble_eq_true rfl) (Nat.le_of_ble_eq_true rfl) pu_J dX11_moves_6 (fun r3 σ2 => ?_)
  refine g_iload_n 1 1 dX11_moves_9 rfl rfl ?_
  refine g_callS (fc := fun sς => Chk_moved sς x1) (as := [iv x1]) q1992 mdX11_251 (ctX11_moved x1) rfl (Nat.le_of_ble_eq_true rfl) (Nat.le_of_ble_eq_true rfl) (Nat.le_of_ble_eq_true rfl) pu_I dX11_moves_10 (fun r5 σ4 => ?_)
  refine g_i2l dX11_moves_13 ?_
  refine g_lcmp_gt 22 dX11_moves_14 dX11_moves_15 (by decide) ?_ ?_
  · refine g_iconst (v := 0) dX11_moves_22 (by decide) ?_
    refine G.sub [0, 1] rfl ?_
    exact gX11_moves_p23 _ _ _ _ _
  · refine g_iconst (v := 1) dX11_moves_18 (by decide) ?_
    refine g_goto 23 dX11_moves_19 (by decide) ?_
    refine G.sub [0, 1] rfl ?_
    exact gX11_moves_p23 _ _ _ _ _
theorem V.dX11_from_0 : decode cX11_from 0 = .ok (.iload_n 0, 1) := by decide +kernel
theorem V.dX11_from_1 : decode cX11_from 1 = .ok (.tableswitch 144 167 196 #[135, 138, 138, 141, 141, 144, 144, 138, 138, 141, 141, 144, 144, 135, 135, 141, 144, 144, 135, 135, 138, 138, 141, 144, 135, 144, 144, 135, 135, 135], 135) := by decide +kernel
theorem V.dX11_from_136 : decode cX11_from 136 = .ok (.bipush 126, 2) := by decide +kernel
theorem V.dX11_from_138 : decode cX11_from 138 = .ok (.ireturn, 1) := by decide +kernel
theorem V.dX11_from_139 : decode cX11_from 139 = .ok (.bipush 125, 2) := by decide +kernel
theorem V.dX11_from_141 : decode cX11_from 141 = .ok (.ireturn, 1) := by decide +kernel
theorem V.dX11_from_142 : decode cX11_from 142 = .ok (.bipush 124, 2) := by decide +kernel
theorem V.dX11_from_144 : decode cX11_from 144 = .ok (.ireturn, 1) := by decide +kernel
theorem V.dX11_from_145 : decode cX11_from 145 = .ok (.bipush 127, 2) := by decide +kernel
theorem V.dX11_from_147 : decode cX11_from 147 = .ok (.ireturn, 1) := by decide +kernel
/-! ModuleEngine$Checker.from(I)I -/
def V.Chk_from (σ : HS) (x0 : Int32) : Option (Int32 × HS) :=
  swx x0 [
    (167, (
      some ((126 : Int32), σ))),
    (168, (
      some ((125 : Int32), σ))),
    (169, (
      some ((125 : Int32), σ))),
    (170, (
      some ((124 : Int32), σ))),
    (171, (
      some ((124 : Int32), σ))),
    (174, (
      some ((125 : Int32), σ))),
    (175, (
      some ((125 : Int32), σ))),
    (176, (
      some ((124 : Int32), σ))),
    (177, (
      some ((124 : Int32), σ))),
    (180, (
      some ((126 : Int32), σ))),
    (181, (
      some ((126 : Int32), σ))),
    (182, (
      some ((124 : Int32), σ))),
    (185, (
      some ((126 : Int32), σ))),
    (186, (
      some ((126 : Int32), σ))),
    (187, (
      some ((125 : Int32), σ))),
    (188, (
      some ((125 : Int32), σ))),
    (189, (
      some ((124 : Int32), σ))),
    (191, (
      some ((126 : Int32), σ))),
    (194, (
      some ((126 : Int32), σ))),
    (195, (
      some ((126 : Int32), σ))),
    (196, (
      some ((126 : Int32), σ)))
    ] (
    some ((127 : Int32), σ))
theorem V.ctX11_from (x0 : Int32) : Ct yX11_from  cX11_from 1 (some .int) 0 0 eI [iv x0] (fun σ => Chk_from σ x0) := by
  refine Ct.of (own := RX11) (nm := "from") (desc := "(I)I") rfl (by decide) (Nat.le_of_ble_eq_true rfl) (by decide) (fun X σ => ?_)
  show G X RX11 "from" cX11_from 1 (some .int) 0 0 enI 0 [(0, iv x0)] [] σ (Chk_from σ x0)
  unfold Chk_from
  refine g_iload_n 0 0 dX11_from_0 rfl rfl ?_
  refine g_tsw dX11_from_1 (by decide +kernel) ?_
  refine g_case ex0 (t := 136) (by decide +kernel) ?_ (fun hx => ?_)
  · refine g_bipush (v := 126) dX11_from_136 (by decide) ?_
    exact g_ireturn rfl dX11_from_138
  refine g_case hx (t := 139) (by decide +kernel) ?_ (fun hx => ?_)
  · refine g_bipush (v := 125) dX11_from_139 (by decide) ?_
    exact g_ireturn rfl dX11_from_141
  refine g_case hx (t := 139) (by decide +kernel) ?_ (fun hx => ?_)
  · refine g_bipush (v := 125) dX11_from_139 (by decide) ?_
    exact g_ireturn rfl dX11_from_141
  refine g_case hx (t := 142) (by decide +kernel) ?_ (fun hx => ?_)
  · refine g_bipush (v := 124) dX11_from_142 (by decide) ?_
    exact g_ireturn rfl dX11_from_144
  refine g_case hx (t := 142) (by decide +kernel) ?_ (fun hx => ?_)
  · refine g_bipush (v := 124) dX11_from_142 (by decide) ?_
    exact g_ireturn rfl dX11_from_144
  refine g_case hx (t := 139) (by decide +kernel) ?_ (fun hx => ?_)
  · refine g_bipush (v := 125) dX11_from_139 (by decide) ?_
    exact g_ireturn rfl dX11_from_141
  refine g_case hx (t := 139) (by decide +kernel) ?_ (fun hx => ?_)
  · refine g_bipush (v := 125) dX11_from_139 (by decide) ?_
    exact g_ireturn rfl dX11_from_141
  refine g_case hx (t := 142) (by decide +kernel) ?_ (fun hx => ?_)
  · refine g_bipush (v := 124) dX11_from_142 (by decide) ?_
    exact g_ireturn rfl dX11_from_144
  refine g_case hx (t := 142) (by decide +kernel) ?_ (fun hx => ?_)
  · refine g_bipush (v := 124) dX11_from_142 (by decide) ?_
    exact g_ireturn rfl dX11_from_144
  refine g_case hx (t := 136) (by decide +kernel) ?_ (fun hx => ?_)
  · refine g_bipush (v := 126) dX11_from_136 (by decide) ?_
    exact g_ireturn rfl dX11_from_138
  refine g_case hx (t := 136) (by decide +kernel) ?_ (fun hx => ?_)
  · refine g_bipush (v := 126) dX11_from_136 (by decide) ?_
    exact g_ireturn rfl dX11_from_138
  refine g_case hx (t := 142) (by decide +kernel) ?_ (fun hx => ?_)
  · refine g_bipush (v := 124) dX11_from_142 (by decide) ?_
    exact g_ireturn rfl dX11_from_144
  refine g_case hx (t := 136) (by decide +kernel) ?_ (fun hx => ?_)
  · refine g_bipush (v := 126) dX11_from_136 (by decide) ?_
    exact g_ireturn rfl dX11_from_138
  refine g_case hx (t := 136) (by decide +kernel) ?_ (fun hx => ?_)
  · refine g_bipush (v := 126) dX11_from_136 (by decide) ?_
    exact g_ireturn rfl dX11_from_138
  refine g_case hx (t := 139) (by decide +kernel) ?_ (fun hx => ?_)
  · refine g_bipush (v := 125) dX11_from_139 (by decide) ?_
    exact g_ireturn rfl dX11_from_141
  refine g_case hx (t := 139) (by decide +kernel) ?_ (fun hx => ?_)
  · refine g_bipush (v := 125) dX11_from_139 (by decide) ?_
    exact g_ireturn rfl dX11_from_141
  refine g_case hx (t := 142) (by decide +kernel) ?_ (fun hx => ?_)
  · refine g_bipush (v := 124) dX11_from_142 (by decide) ?_
    exact g_ireturn rfl dX11_from_144
  refine g_case hx (t := 136) (by decide +kernel) ?_ (fun hx => ?_)
  · refine g_bipush (v := 126) dX11_from_136 (by decide) ?_
    exact g_ireturn rfl dX11_from_138
  refine g_case hx (t := 136) (by decide +kernel) ?_ (fun hx => ?_)
  · refine g_bipush (v := 126) dX11_from_136 (by decide) ?_
    exact g_ireturn rfl dX11_from_138
  refine g_case hx (t := 136) (by decide +kernel) ?_ (fun hx => ?_)
  · refine g_bipush (v := 126) dX11_from_136 (by decide) ?_
    exact g_ireturn rfl dX11_from_138
  refine g_case hx (t := 136) (by decide +kernel) ?_ (fun hx => ?_)
  · refine g_bipush (v := 126) dX11_from_136 (by decide) ?_
    exact g_ireturn rfl dX11_from_138
  refine g_dflt (t := 145) (tswT_d (by decide +kernel) (by decide +kernel) hx) ?_
  refine g_bipush (v := 127) dX11_from_145 (by decide) ?_
  exact g_ireturn rfl dX11_from_147
theorem V.dX11_to_0 : decode cX11_to 0 = .ok (.iload_n 0, 1) := by decide +kernel
theorem V.dX11_to_1 : decode cX11_to 1 = .ok (.sipush 172, 3) := by decide +kernel
theorem V.dX11_to_4 : decode cX11_to 4 = .ok (.if_icmp .lt 24, 3) := by decide +kernel
theorem V.dX11_to_7 : decode cX11_to 7 = .ok (.iload_n 0, 1) := by decide +kernel
theorem V.dX11_to_8 : decode cX11_to 8 = .ok (.sipush 188, 3) := by decide +kernel
theorem V.dX11_to_11 : decode cX11_to 11 = .ok (.if_icmp .eq 17, 3) := by decide +kernel
theorem V.dX11_to_14 : decode cX11_to 14 = .ok (.iload_n 0, 1) := by decide +kernel
theorem V.dX11_to_15 : decode cX11_to 15 = .ok (.sipush 192, 3) := by decide +kernel
theorem V.dX11_to_18 : decode cX11_to 18 = .ok (.if_icmp .eq 10, 3) := by decide +kernel
theorem V.dX11_to_21 : decode cX11_to 21 = .ok (.iload_n 0, 1) := by decide +kernel
theorem V.dX11_to_22 : decode cX11_to 22 = .ok (.sipush 193, 3) := by decide +kernel
theorem V.dX11_to_25 : decode cX11_to 25 = .ok (.if_icmp .ne 6, 3) := by decide +kernel
theorem V.dX11_to_28 : decode cX11_to 28 = .ok (.bipush 127, 2) := by decide +kernel
theorem V.dX11_to_30 : decode cX11_to 30 = .ok (.ireturn, 1) := by decide +kernel
theorem V.dX11_to_31 : decode cX11_to 31 = .ok (.iload_n 0, 1) := by decide +kernel
theorem V.dX11_to_32 : decode cX11_to 32 = .ok (.sipush 178, 3) := by decide +kernel
theorem V.dX11_to_35 : decode cX11_to 35 = .ok (.if_icmp .lt 17, 3) := by decide +kernel
theorem V.dX11_to_38 : decode cX11_to 38 = .ok (.iload_n 0, 1) := by decide +kernel
theorem V.dX11_to_39 : decode cX11_to 39 = .ok (.sipush 189, 3) := by decide +kernel
theorem V.dX11_to_42 : decode cX11_to 42 = .ok (.if_icmp .eq 10, 3) := by decide +kernel
theorem V.dX11_to_45 : decode cX11_to 45 = .ok (.iload_n 0, 1) := by decide +kernel
theorem V.dX11_to_46 : decode cX11_to 46 = .ok (.sipush 193, 3) := by decide +kernel
theorem V.dX11_to_49 : decode cX11_to 49 = .ok (.if_icmp .le 6, 3) := by decide +kernel
theorem V.dX11_to_52 : decode cX11_to 52 = .ok (.bipush 126, 2) := by decide +kernel
theorem V.dX11_to_54 : decode cX11_to 54 = .ok (.ireturn, 1) := by decide +kernel
theorem V.dX11_to_55 : decode cX11_to 55 = .ok (.iload_n 0, 1) := by decide +kernel
theorem V.dX11_to_56 : decode cX11_to 56 = .ok (.sipush 183, 3) := by decide +kernel
theorem V.dX11_to_59 : decode cX11_to 59 = .ok (.if_icmp .lt 10, 3) := by decide +kernel
theorem V.dX11_to_62 : decode cX11_to 62 = .ok (.iload_n 0, 1) := by decide +kernel
theorem V.dX11_to_63 : decode cX11_to 63 = .ok (.sipush 190, 3) := by decide +kernel
theorem V.dX11_to_66 : decode cX11_to 66 = .ok (.if_icmp .ne 8, 3) := by decide +kernel
theorem V.dX11_to_69 : decode cX11_to 69 = .ok (.bipush 125, 2) := by decide +kernel
theorem V.dX11_to_71 : decode cX11_to 71 = .ok (.goto 5, 3) := by decide +kernel
theorem V.dX11_to_74 : decode cX11_to 74 = .ok (.bipush 124, 2) := by decide +kernel
theorem V.dX11_to_76 : decode cX11_to 76 = .ok (.ireturn, 1) := by decide +kernel
/-! ModuleEngine$Checker.to(I)I -/
def V.Chk_to_p69  (σ : HS)  : Option (Int32 × HS) :=
  some ((125 : Int32), σ)
theorem V.gX11_to_p69 {X : CX}  (σ : HS)  : G X RX11 "to" cX11_to 1 (some .int) 0 0 enI 69 [] [] σ (Chk_to_p69 σ ) := by
  unfold Chk_to_p69
  refine g_bipush (v := 125) dX11_to_69 (by decide) ?_
  refine g_goto 76 dX11_to_71 (by decide) ?_
  exact g_ireturn rfl dX11_to_76
def V.Chk_to (σ : HS) (x0 : Int32) : Option (Int32 × HS) :=
  if x0 < (172 : Int32) then (
    some ((127 : Int32), σ))
  else (
    if x0 = (188 : Int32) then (
      some ((127 : Int32), σ))
    else (
      if x0 = (192 : Int32) then (
        some ((127 : Int32), σ))
      else (
        if x0 = (193 : Int32) then (
          some ((127 : Int32), σ))
        else (
          if x0 < (178 : Int32) then (
            some ((126 : Int32), σ))
          else (
            if x0 = (189 : Int32) then (
              some ((126 : Int32), σ))
            else (
              if x0 ≤ (193 : Int32) then (
                if x0 < (183 : Int32) then (
                  Chk_to_p69 σ)
                else (
                  if x0 = (190 : Int32) then (
                    Chk_to_p69 σ)
                  else (
                    some ((124 : Int32), σ))))
              else (
                some ((126 : Int32), σ))))))))
theorem V.ctX11_to (x0 : Int32) : Ct yX11_to  cX11_to 1 (some .int) 0 0 eI [iv x0] (fun σ => Chk_to σ x0) := by
  refine Ct.of (own := RX11) (nm := "to") (desc := "(I)I") rfl (by decide) (Nat.le_of_ble_eq_true rfl) (by decide) (fun X σ => ?_)
  show G X RX11 "to" cX11_to 1 (some .int) 0 0 enI 0 [(0, iv x0)] [] σ (Chk_to σ x0)
  unfold Chk_to
  refine g_iload_n 0 0 dX11_to_0 rfl rfl ?_
  refine g_sipush (v := 172) dX11_to_1 (by decide) ?_
  refine g_icmp_lt 28 dX11_to_4 (by decide) ?_ ?_
  · refine g_bipush (v := 127) dX11_to_28 (by decide) ?_
    exact g_ireturn rfl dX11_to_30
  · refine g_iload_n 0 0 dX11_to_7 rfl rfl ?_
    refine g_sipush (v := 188) dX11_to_8 (by decide) ?_
    refine g_icmp_eq 28 dX11_to_11 (by decide) ?_ ?_
    · refine g_bipush (v := 127) dX11_to_28 (by decide) ?_
      exact g_ireturn rfl dX11_to_30
    · refine g_iload_n 0 0 dX11_to_14 rfl rfl ?_
      refine g_sipush (v := 192) dX11_to_15 (by decide) ?_
      refine g_icmp_eq 28 dX11_to_18 (by decide) ?_ ?_
      · refine g_bipush (v := 127) dX11_to_28 (by decide) ?_
        exact g_ireturn rfl dX11_to_30
      · refine g_iload_n 0 0 dX11_to_21 rfl rfl ?_
        refine g_sipush (v := 193) dX11_to_22 (by decide) ?_
        refine g_icmp_ne 31 dX11_to_25 (by decide) ?_ ?_
        · refine g_iload_n 0 0 dX11_to_31 rfl rfl ?_
          refine g_sipush (v := 178) dX11_to_32 (by decide) ?_
          refine g_icmp_lt 52 dX11_to_35 (by decide) ?_ ?_
          · refine g_bipush (v := 126) dX11_to_52 (by decide) ?_
            exact g_ireturn rfl dX11_to_54
          · refine g_iload_n 0 0 dX11_to_38 rfl rfl ?_
            refine g_sipush (v := 189) dX11_to_39 (by decide) ?_
            refine g_icmp_eq 52 dX11_to_42 (by decide) ?_ ?_
            · refine g_bipush (v := 126) dX11_to_52 (by decide) ?_
              exact g_ireturn rfl dX11_to_54
            · refine g_iload_n 0 0 dX11_to_45 rfl rfl ?_
              refine g_sipush (v := 193) dX11_to_46 (by decide) ?_
              refine g_icmp_le 55 dX11_to_49 (by decide) ?_ ?_
              · refine g_iload_n 0 0 dX11_to_55 rfl rfl ?_
                refine g_sipush (v := 183) dX11_to_56 (by decide) ?_
                refine g_icmp_lt 69 dX11_to_59 (by decide) ?_ ?_
                · refine G.sub [] rfl ?_
                  exact gX11_to_p69 _
                · refine g_iload_n 0 0 dX11_to_62 rfl rfl ?_
                  refine g_sipush (v := 190) dX11_to_63 (by decide) ?_
                  refine g_icmp_ne 74 dX11_to_66 (by decide) ?_ ?_
                  · refine g_bipush (v := 124) dX11_to_74 (by decide) ?_
                    exact g_ireturn rfl dX11_to_76
                  · refine G.sub [] rfl ?_
                    exact gX11_to_p69 _
              · refine g_bipush (v := 126) dX11_to_52 (by decide) ?_
                exact g_ireturn rfl dX11_to_54
        · refine g_bipush (v := 127) dX11_to_28 (by decide) ?_
          exact g_ireturn rfl dX11_to_30
theorem V.dX11_numbers_0 : decode cX11_numbers 0 = .ok (.iload_n 1, 1) := by decide +kernel
theorem V.dX11_numbers_1 : decode cX11_numbers 1 = .ok (.bipush 103, 2) := by decide +kernel
theorem V.dX11_numbers_3 : decode cX11_numbers 3 = .ok (.if_icmp .ge 67, 3) := by decide +kernel
theorem V.dX11_numbers_6 : decode cX11_numbers 6 = .ok (.iload_n 1, 1) := by decide +kernel
theorem V.dX11_numbers_7 : decode cX11_numbers 7 = .ok (.bipush 80, 2) := by decide +kernel
theorem V.dX11_numbers_9 : decode cX11_numbers 9 = .ok (.if_icmp .ge 8, 3) := by decide +kernel
theorem V.dX11_numbers_12 : decode cX11_numbers 12 = .ok (.bipush 127, 2) := by decide +kernel
theorem V.dX11_numbers_14 : decode cX11_numbers 14 = .ok (.goto 27, 3) := by decide +kernel
theorem V.dX11_numbers_17 : decode cX11_numbers 17 = .ok (.iload_n 1, 1) := by decide +kernel
theorem V.dX11_numbers_18 : decode cX11_numbers 18 = .ok (.bipush 91, 2) := by decide +kernel
theorem V.dX11_numbers_20 : decode cX11_numbers 20 = .ok (.if_icmp .ge 8, 3) := by decide +kernel
theorem V.dX11_numbers_23 : decode cX11_numbers 23 = .ok (.bipush 126, 2) := by decide +kernel
theorem V.dX11_numbers_25 : decode cX11_numbers 25 = .ok (.goto 16, 3) := by decide +kernel
theorem V.dX11_numbers_28 : decode cX11_numbers 28 = .ok (.iload_n 1, 1) := by decide +kernel
theorem V.dX11_numbers_29 : decode cX11_numbers 29 = .ok (.bipush 97, 2) := by decide +kernel
theorem V.dX11_numbers_31 : decode cX11_numbers 31 = .ok (.if_icmp .ge 8, 3) := by decide +kernel
theorem V.dX11_numbers_34 : decode cX11_numbers 34 = .ok (.bipush 125, 2) := by decide +kernel
theorem V.dX11_numbers_36 : decode cX11_numbers 36 = .ok (.goto 5, 3) := by decide +kernel
theorem V.dX11_numbers_39 : decode cX11_numbers 39 = .ok (.bipush 124, 2) := by decide +kernel
theorem V.dX11_numbers_41 : decode cX11_numbers 41 = .ok (.istore_n 2, 1) := by decide +kernel
theorem V.dX11_numbers_42 : decode cX11_numbers 42 = .ok (.iload_n 1, 1) := by decide +kernel
theorem V.dX11_numbers_43 : decode cX11_numbers 43 = .ok (.bipush 69, 2) := by decide +kernel
theorem V.dX11_numbers_45 : decode cX11_numbers 45 = .ok (.if_icmp .eq 15, 3) := by decide +kernel
theorem V.dX11_numbers_48 : decode cX11_numbers 48 = .ok (.iload_n 1, 1) := by decide +kernel
theorem V.dX11_numbers_49 : decode cX11_numbers 49 = .ok (.bipush 80, 2) := by decide +kernel
theorem V.dX11_numbers_51 : decode cX11_numbers 51 = .ok (.if_icmp .eq 9, 3) := by decide +kernel
theorem V.dX11_numbers_54 : decode cX11_numbers 54 = .ok (.aload_n 0, 1) := by decide +kernel
theorem V.dX11_numbers_55 : decode cX11_numbers 55 = .ok (.iload_n 2, 1) := by decide +kernel
theorem V.dX11_numbers_56 : decode cX11_numbers 56 = .ok (.invokevirtual 149, 3) := by decide +kernel
theorem V.dX11_numbers_59 : decode cX11_numbers 59 = .ok (.pop, 1) := by decide +kernel
theorem V.dX11_numbers_60 : decode cX11_numbers 60 = .ok (.aload_n 0, 1) := by decide +kernel
theorem V.dX11_numbers_61 : decode cX11_numbers 61 = .ok (.iload_n 2, 1) := by decide +kernel
theorem V.dX11_numbers_62 : decode cX11_numbers 62 = .ok (.bipush 127, 2) := by decide +kernel
theorem V.dX11_numbers_64 : decode cX11_numbers 64 = .ok (.invokevirtual 161, 3) := by decide +kernel
theorem V.dX11_numbers_67 : decode cX11_numbers 67 = .ok (.goto 112, 3) := by decide +kernel
theorem V.dX11_numbers_70 : decode cX11_numbers 70 = .ok (.iload_n 1, 1) := by decide +kernel
theorem V.dX11_numbers_71 : decode cX11_numbers 71 = .ok (.sipush 139, 3) := by decide +kernel
theorem V.dX11_numbers_74 : decode cX11_numbers 74 = .ok (.if_icmp .ge 43, 3) := by decide +kernel
theorem V.dX11_numbers_77 : decode cX11_numbers 77 = .ok (.iload_n 1, 1) := by decide +kernel
theorem V.dX11_numbers_78 : decode cX11_numbers 78 = .ok (.bipush 121, 2) := by decide +kernel
theorem V.dX11_numbers_80 : decode cX11_numbers 80 = .ok (.if_icmp .ge 8, 3) := by decide +kernel
theorem V.dX11_numbers_83 : decode cX11_numbers 83 = .ok (.bipush 127, 2) := by decide +kernel
theorem V.dX11_numbers_85 : decode cX11_numbers 85 = .ok (.goto 5, 3) := by decide +kernel
theorem V.dX11_numbers_88 : decode cX11_numbers 88 = .ok (.bipush 126, 2) := by decide +kernel
theorem V.dX11_numbers_90 : decode cX11_numbers 90 = .ok (.istore_n 2, 1) := by decide +kernel
theorem V.dX11_numbers_91 : decode cX11_numbers 91 = .ok (.iload_n 1, 1) := by decide +kernel
theorem V.dX11_numbers_92 : decode cX11_numbers 92 = .ok (.bipush 103, 2) := by decide +kernel
theorem V.dX11_numbers_94 : decode cX11_numbers 94 = .ok (.isub, 1) := by decide +kernel
theorem V.dX11_numbers_95 : decode cX11_numbers 95 = .ok (.bipush 18, 2) := by decide +kernel
theorem V.dX11_numbers_97 : decode cX11_numbers 97 = .ok (.irem, 1) := by decide +kernel
theorem V.dX11_numbers_98 : decode cX11_numbers 98 = .ok (.iconst 2, 1) := by decide +kernel
theorem V.dX11_numbers_99 : decode cX11_numbers 99 = .ok (.if_icmp .le 9, 3) := by decide +kernel
theorem V.dX11_numbers_102 : decode cX11_numbers 102 = .ok (.aload_n 0, 1) := by decide +kernel
theorem V.dX11_numbers_103 : decode cX11_numbers 103 = .ok (.iload_n 2, 1) := by decide +kernel
theorem V.dX11_numbers_104 : decode cX11_numbers 104 = .ok (.invokevirtual 149, 3) := by decide +kernel
theorem V.dX11_numbers_107 : decode cX11_numbers 107 = .ok (.pop, 1) := by decide +kernel
theorem V.dX11_numbers_108 : decode cX11_numbers 108 = .ok (.aload_n 0, 1) := by decide +kernel
theorem V.dX11_numbers_109 : decode cX11_numbers 109 = .ok (.iload_n 2, 1) := by decide +kernel
theorem V.dX11_numbers_110 : decode cX11_numbers 110 = .ok (.iload_n 2, 1) := by decide +kernel
theorem V.dX11_numbers_111 : decode cX11_numbers 111 = .ok (.invokevirtual 161, 3) := by decide +kernel
theorem V.dX11_numbers_114 : decode cX11_numbers 114 = .ok (.goto 65, 3) := by decide +kernel
theorem V.dX11_numbers_117 : decode cX11_numbers 117 = .ok (.iload_n 1, 1) := by decide +kernel
theorem V.dX11_numbers_118 : decode cX11_numbers 118 = .ok (.sipush 167, 3) := by decide +kernel
theorem V.dX11_numbers_121 : decode cX11_numbers 121 = .ok (.if_icmp .ge 46, 3) := by decide +kernel
theorem V.dX11_numbers_124 : decode cX11_numbers 124 = .ok (.iload_n 1, 1) := by decide +kernel
theorem V.dX11_numbers_125 : decode cX11_numbers 125 = .ok (.sipush 153, 3) := by decide +kernel
theorem V.dX11_numbers_128 : decode cX11_numbers 128 = .ok (.if_icmp .ge 8, 3) := by decide +kernel
theorem V.dX11_numbers_131 : decode cX11_numbers 131 = .ok (.bipush 125, 2) := by decide +kernel
theorem V.dX11_numbers_133 : decode cX11_numbers 133 = .ok (.goto 5, 3) := by decide +kernel
theorem V.dX11_numbers_136 : decode cX11_numbers 136 = .ok (.bipush 124, 2) := by decide +kernel
theorem V.dX11_numbers_138 : decode cX11_numbers 138 = .ok (.istore_n 2, 1) := by decide +kernel
theorem V.dX11_numbers_139 : decode cX11_numbers 139 = .ok (.iload_n 1, 1) := by decide +kernel
theorem V.dX11_numbers_140 : decode cX11_numbers 140 = .ok (.sipush 139, 3) := by decide +kernel
theorem V.dX11_numbers_143 : decode cX11_numbers 143 = .ok (.isub, 1) := by decide +kernel
theorem V.dX11_numbers_144 : decode cX11_numbers 144 = .ok (.bipush 14, 2) := by decide +kernel
theorem V.dX11_numbers_146 : decode cX11_numbers 146 = .ok (.irem, 1) := by decide +kernel
theorem V.dX11_numbers_147 : decode cX11_numbers 147 = .ok (.bipush 6, 2) := by decide +kernel
theorem V.dX11_numbers_149 : decode cX11_numbers 149 = .ok (.if_icmp .le 9, 3) := by decide +kernel
theorem V.dX11_numbers_152 : decode cX11_numbers 152 = .ok (.aload_n 0, 1) := by decide +kernel
theorem V.dX11_numbers_153 : decode cX11_numbers 153 = .ok (.iload_n 2, 1) := by decide +kernel
theorem V.dX11_numbers_154 : decode cX11_numbers 154 = .ok (.invokevirtual 149, 3) := by decide +kernel
theorem V.dX11_numbers_157 : decode cX11_numbers 157 = .ok (.pop, 1) := by decide +kernel
theorem V.dX11_numbers_158 : decode cX11_numbers 158 = .ok (.aload_n 0, 1) := by decide +kernel
theorem V.dX11_numbers_159 : decode cX11_numbers 159 = .ok (.iload_n 2, 1) := by decide +kernel
theorem V.dX11_numbers_160 : decode cX11_numbers 160 = .ok (.iload_n 2, 1) := by decide +kernel
theorem V.dX11_numbers_161 : decode cX11_numbers 161 = .ok (.invokevirtual 161, 3) := by decide +kernel
theorem V.dX11_numbers_164 : decode cX11_numbers 164 = .ok (.goto 15, 3) := by decide +kernel
theorem V.dX11_numbers_167 : decode cX11_numbers 167 = .ok (.aload_n 0, 1) := by decide +kernel
theorem V.dX11_numbers_168 : decode cX11_numbers 168 = .ok (.iload_n 1, 1) := by decide +kernel
theorem V.dX11_numbers_169 : decode cX11_numbers 169 = .ok (.invokestatic 257, 3) := by decide +kernel
theorem V.dX11_numbers_172 : decode cX11_numbers 172 = .ok (.iload_n 1, 1) := by decide +kernel
theorem V.dX11_numbers_173 : decode cX11_numbers 173 = .ok (.invokestatic 260, 3) := by decide +kernel
theorem V.dX11_numbers_176 : decode cX11_numbers 176 = .ok (.invokevirtual 161, 3) := by decide +kernel
theorem V.dX11_numbers_179 : decode cX11_numbers 179 = .ok (.return_, 1) := by decide +kernel
theorem V.mdX11_257 : MD RX11 257 yX11_from cX11_from 1 (some .int) 1 := ⟨Or.inl q2001, q371, q2003, by decide, by decide, by decide +kernel⟩
theorem V.mdX11_260 : MD RX11 260 yX11_to cX11_to 1 (some .int) 1 := ⟨Or.inl q2004, q371, q2006, by decide, by decide, by decide +kernel⟩
/-! ModuleEngine$Checker.numbers(I)V -/
def V.Chk_numbers_p158  (σ : HS) (x0 : Nat) (x2 : Int32) : Option ((Nat ⊕ Unit) × HS) :=
  ck (tg σ x0 = 12) <| clT (Chk_turn σ x0 x2 x2) fun _ σ1 =>
  some (.inr (), σ1)
theorem V.gX11_numbers_p158 {X : CX}  (σ : HS) (x0 : Nat) (x2 : Int32) : G X RX11 "numbers" cX11_numbers 3 none 11 193 (enX enV (cxz X)) 158 [(0, av x0), (2, iv x2)] [] σ (Chk_numbers_p158 σ x0 x2) := by
  unfold Chk_numbers_p158
  refine g_aload_n 0 0 dX11_numbers_158 rfl rfl ?_
  refine g_iload_n 2 1 dX11_numbers_159 rfl rfl ?_
  refine g_iload_n 2 1 dX11_numbers_160 rfl rfl ?_
  refine g_callVT (fc := fun sς => Chk_turn sς x0 x2 x2) (ci := 11) (as := [iv x2, iv x2]) rfl rfl rfl q1969 qs106 q1967 mdX11_161 (ctX11_turn x0 x2 x2) rfl (Nat.le_of_ble_eq_true rfl) (Nat.le_of_ble_eq_true rfl) (Nat.le_of_ble_eq_true rfl) pu_V (by decide) dX11_numbers_161 (fun _ σ1 => ?_)
  refine g_goto 179 dX11_numbers_164 (by decide) ?_
  exact g_return rfl dX11_numbers_179
def V.Chk_numbers_p138  (σ : HS) (x0 : Nat) (x1 : Int32) (s0 : Int32) : Option ((Nat ⊕ Unit) × HS) :=
  ck (¬ (14 : Int32) = 0) <|
  if ((x1 - (139 : Int32)) - (x1 - (139 : Int32)) / (14 : Int32) * (14 : Int32)) ≤ (6 : Int32) then (
    Chk_numbers_p158 σ x0 s0)
  else (
    ck (tg σ x0 = 12) <| clT (Chk_take σ x0 s0) fun r2 σ1 =>
    Chk_numbers_p158 σ1 x0 s0)
theorem V.gX11_numbers_p138 {X : CX}  (σ : HS) (x0 : Nat) (x1 : Int32) (s0 : Int32) : G X RX11 "numbers" cX11_numbers 3 none 11 193 (enX enV (cxz X)) 138 [(0, av x0), (1, iv x1)] [iv s0] σ (Chk_numbers_p138 σ x0 x1 s0) := by
  unfold Chk_numbers_p138
  refine g_istore_n 2 dX11_numbers_138 rfl (by decide) rfl ?_
  refine g_iload_n 1 2 dX11_numbers_139 rfl rfl ?_
  refine g_sipush (v := 139) dX11_numbers_140 (by decide) ?_
  refine g_isub dX11_numbers_143 ?_
  refine g_bipush (v := 14) dX11_numbers_144 (by decide) ?_
  refine g_irem dX11_numbers_146 ?_
  refine g_bipush (v := 6) dX11_numbers_147 (by decide) ?_
  refine g_icmp_le 158 dX11_numbers_149 (by decide) ?_ ?_
  · refine G.sub [1, 0] rfl ?_
    exact gX11_numbers_p158 _ _ _
  · refine g_aload_n 0 1 dX11_numbers_152 rfl rfl ?_
    refine g_iload_n 2 0 dX11_numbers_153 rfl rfl ?_
    refine g_callVT (fc := fun sς => Chk_take sς x0 s0) (ci := 11) (as := [iv s0]) rfl rfl rfl q1837 qs80 q1835 mdX11_149 (ctX11_take x0 s0) rfl (Nat.le_of_ble_eq_true rfl) (Nat.le_of_ble_eq_true rfl) (Nat.le_of_ble_eq_true rfl) pu_I (by decide) dX11_numbers_154 (fun r2 σ1 => ?_)
    refine g_pop dX11_numbers_157 rfl ?_
    refine G.sub [1, 0] rfl ?_
    exact gX11_numbers_p158 _ _ _
def V.Chk_numbers_p108  (σ : HS) (x0 : Nat) (x2 : Int32) : Option ((Nat ⊕ Unit) × HS) :=
  ck (tg σ x0 = 12) <| clT (Chk_turn σ x0 x2 x2) fun _ σ1 =>
  some (.inr (), σ1)
theorem V.gX11_numbers_p108 {X : CX}  (σ : HS) (x0 : Nat) (x2 : Int32) : G X RX11 "numbers" cX11_numbers 3 none 11 193 (enX enV (cxz X)) 108 [(0, av x0), (2, iv x2)] [] σ (Chk_numbers_p108 σ x0 x2) := by
  unfold Chk_numbers_p108
  refine g_aload_n 0 0 dX11_numbers_108 rfl rfl ?_
  refine g_iload_n 2 1 dX11_numbers_109 rfl rfl ?_
  refine g_iload_n 2 1 dX11_numbers_110 rfl rfl ?_
  refine g_callVT (fc := fun sς => Chk_turn sς x0 x2 x2) (ci := 11) (as := [iv x2, iv x2]) rfl rfl rfl q1969 qs106 q1967 mdX11_161 (ctX11_turn x0 x2 x2) rfl (Nat.le_of_ble_eq_true rfl) (Nat.le_of_ble_eq_true rfl) (Nat.le_of_ble_eq_true rfl) pu_V (by decide) dX11_numbers_111 (fun _ σ1 => ?_)
  refine g_goto 179 dX11_numbers_114 (by decide) ?_
  exact g_return rfl dX11_numbers_179
def V.Chk_numbers_p90  (σ : HS) (x0 : Nat) (x1 : Int32) (s0 : Int32) : Option ((Nat ⊕ Unit) × HS) :=
  ck (¬ (18 : Int32) = 0) <|
  if ((x1 - (103 : Int32)) - (x1 - (103 : Int32)) / (18 : Int32) * (18 : Int32)) ≤ (2 : Int32) then (
    Chk_numbers_p108 σ x0 s0)
  else (
    ck (tg σ x0 = 12) <| clT (Chk_take σ x0 s0) fun r2 σ1 =>
    Chk_numbers_p108 σ1 x0 s0)
theorem V.gX11_numbers_p90 {X : CX}  (σ : HS) (x0 : Nat) (x1 : Int32) (s0 : Int32) : G X RX11 "numbers" cX11_numbers 3 none 11 193 (enX enV (cxz X)) 90 [(0, av x0), (1, iv x1)] [iv s0] σ (Chk_numbers_p90 σ x0 x1 s0) := by
  unfold Chk_numbers_p90
  refine g_istore_n 2 dX11_numbers_90 rfl (by decide) rfl ?_
  refine g_iload_n 1 2 dX11_numbers_91 rfl rfl ?_
  refine g_bipush (v := 103) dX11_numbers_92 (by decide) ?_
  refine g_isub dX11_numbers_94 ?_
  refine g_bipush (v := 18) dX11_numbers_95 (by decide) ?_
  refine g_irem dX11_numbers_97 ?_
  refine g_iconst (v := 2) dX11_numbers_98 (by decide) ?_
  refine g_icmp_le 108 dX11_numbers_99 (by decide) ?_ ?_
  · refine G.sub [1, 0] rfl ?_
    exact gX11_numbers_p108 _ _ _
  · refine g_aload_n 0 1 dX11_numbers_102 rfl rfl ?_
    refine g_iload_n 2 0 dX11_numbers_103 rfl rfl ?_
    refine g_callVT (fc := fun sς => Chk_take sς x0 s0) (ci := 11) (as := [iv s0]) rfl rfl rfl q1837 qs80 q1835 mdX11_149 (ctX11_take x0 s0) rfl (Nat.le_of_ble_eq_true rfl) (Nat.le_of_ble_eq_true rfl) (Nat.le_of_ble_eq_true rfl) pu_I (by decide) dX11_numbers_104 (fun r2 σ1 => ?_)
    refine g_pop dX11_numbers_107 rfl ?_
    refine G.sub [1, 0] rfl ?_
    exact gX11_numbers_p108 _ _ _
def V.Chk_numbers_p60  (σ : HS) (x0 : Nat) (x2 : Int32) : Option ((Nat ⊕ Unit) × HS) :=
  ck (tg σ x0 = 12) <| clT (Chk_turn σ x0 x2 (127 : Int32)) fun _ σ1 =>
  some (.inr (), σ1)
theorem V.gX11_numbers_p60 {X : CX}  (σ : HS) (x0 : Nat) (x2 : Int32) : G X RX11 "numbers" cX11_numbers 3 none 11 193 (enX enV (cxz X)) 60 [(0, av x0), (2, iv x2)] [] σ (Chk_numbers_p60 σ x0 x2) := by
  unfold Chk_numbers_p60
  refine g_aload_n 0 0 dX11_numbers_60 rfl rfl ?_
  refine g_iload_n 2 1 dX11_numbers_61 rfl rfl ?_
  refine g_bipush (v := 127) dX11_numbers_62 (by decide) ?_
  refine g_callVT (fc := fun sς => Chk_turn sς x0 x2 (127 : Int32)) (ci := 11) (as := [iv x2, iv (127 : Int32)]) rfl rfl rfl q1969 qs106 q1967 mdX11_161 (ctX11_turn x0 x2 (127 : Int32)) rfl (Nat.le_of_ble_eq_true rfl) (Nat.le_of_ble_eq_true rfl) (Nat.le_of_ble_eq_true rfl) pu_V (by decide) dX11_numbers_64 (fun _ σ1 => ?_)
  refine g_goto 179 dX11_numbers_67 (by decide) ?_
  exact g_return rfl dX11_numbers_179
def V.Chk_numbers_p41  (σ : HS) (x0 : Nat) (x1 : Int32) (s0 : Int32) : Option ((Nat ⊕ Unit) × HS) :=
  if x1 = (69 : Int32) then (
    Chk_numbers_p60 σ x0 s0)
  else (
    if x1 = (80 : Int32) then (
      Chk_numbers_p60 σ x0 s0)
    else (
      ck (tg σ x0 = 12) <| clT (Chk_take σ x0 s0) fun r2 σ1 =>
      Chk_numbers_p60 σ1 x0 s0))
theorem V.gX11_numbers_p41 {X : CX}  (σ : HS) (x0 : Nat) (x1 : Int32) (s0 : Int32) : G X RX11 "numbers" cX11_numbers 3 none 11 193 (enX enV (cxz X)) 41 [(0, av x0), (1, iv x1)] [iv s0] σ (Chk_numbers_p41 σ x0 x1 s0) := by
  unfold Chk_numbers_p41
  refine g_istore_n 2 dX11_numbers_41 rfl (by decide) rfl ?_
  refine g_iload_n 1 2 dX11_numbers_42 rfl rfl ?_
  refine g_bipush (v := 69) dX11_numbers_43 (by decide) ?_
  refine g_icmp_eq 60 dX11_numbers_45 (by decide) ?_ ?_
  · refine G.sub [1, 0] rfl ?_
    exact gX11_numbers_p60 _ _ _
  · refine g_iload_n 1 2 dX11_numbers_48 rfl rfl ?_
    refine g_bipush (v := 80) dX11_numbers_49 (by decide) ?_
    refine g_icmp_eq 60 dX11_numbers_51 (by decide) ?_ ?_
    · refine G.sub [1, 0] rfl ?_
      exact gX11_numbers_p60 _ _ _
    · refine g_aload_n 0 1 dX11_numbers_54 rfl rfl ?_
      refine g_iload_n 2 0 dX11_numbers_55 rfl rfl ?_
      refine g_callVT (fc := fun sς => Chk_take sς x0 s0) (ci := 11) (as := [iv s0]) rfl rfl rfl q1837 qs80 q1835 mdX11_149 (ctX11_take x0 s0) rfl (Nat.le_of_ble_eq_true rfl) (Nat.le_of_ble_eq_true rfl) (Nat.le_of_ble_eq_true rfl) pu_I (by decide) dX11_numbers_56 (fun r2 σ1 => ?_)
      refine g_pop dX11_numbers_59 rfl ?_
      refine G.sub [1, 0] rfl ?_
      exact gX11_numbers_p60 _ _ _
def V.Chk_numbers (σ : HS) (x0 : Nat) (x1 : Int32) : Option ((Nat ⊕ Unit) × HS) :=
  if (103 : Int32) ≤ x1 then (
    if (139 : Int32) ≤ x1 then (
      if (167 : Int32) ≤ x1 then (
        cl (Chk_from σ x1) fun r2 σ1 =>
        cl (Chk_to σ1 x1) fun r4 σ3 =>
        ck (tg σ3 x0 = 12) <| clT (Chk_turn σ3 x0 r2 r4) fun _ σ5 =>
        some (.inr (), σ5))
      else (
        if (153 : Int32) ≤ x1 then (
          Chk_numbers_p138 σ x0 x1 (124 : Int32))
        else (
          Chk_numbers_p138 σ x0 x1 (125 : Int32))))
    else (
      if (121 : Int32) ≤ x1 then (
        Chk_numbers_p90 σ x0 x1 (126 : Int32))
      else (
        Chk_numbers_p90 σ x0 x1 (127 : Int32))))
  else (
    if (80 : Int32) ≤ x1 then (
      if (91 : Int32) ≤ x1 then (
        if (97 : Int32) ≤ x1 then (
          Chk_numbers_p41 σ x0 x1 (124 : Int32))
        else (
          Chk_numbers_p41 σ x0 x1 (125 : Int32)))
      else (
        Chk_numbers_p41 σ x0 x1 (126 : Int32)))
    else (
      Chk_numbers_p41 σ x0 x1 (127 : Int32)))
theorem V.ctX11_numbers (x0 : Nat) (x1 : Int32) : Ct yX11_numbers  cX11_numbers 3 none 11 193 eXV [av x0, iv x1] (fun σ => Chk_numbers σ x0 x1) := by
  refine Ct.of (own := RX11) (nm := "numbers") (desc := "(I)V") rfl (by decide) (Nat.le_of_ble_eq_true rfl) (by decide) (fun X σ => ?_)
  show G X RX11 "numbers" cX11_numbers 3 none 11 193 (enX enV (cxz X)) 0 [(0, av x0), (1, iv x1)] [] σ (Chk_numbers σ x0 x1)
  unfold Chk_numbers
  refine g_iload_n 1 1 dX11_numbers_0 rfl rfl ?_
  refine g_bipush (v := 103) dX11_numbers_1 (by decide) ?_
  refine g_icmp_ge 70 dX11_numbers_3 (by decide) ?_ ?_
  · refine g_iload_n 1 1 dX11_numbers_70 rfl rfl ?_
    refine g_sipush (v := 139) dX11_numbers_71 (by decide) ?_
    refine g_icmp_ge 117 dX11_numbers_74 (by decide) ?_ ?_
    · refine g_iload_n 1 1 dX11_numbers_117 rfl rfl ?_
      refine g_sipush (v := 167) dX11_numbers_118 (by decide) ?_
      refine g_icmp_ge 167 dX11_numbers_121 (by decide) ?_ ?_
      · refine g_aload_n 0 0 dX11_numbers_167 rfl rfl ?_
        refine g_iload_n 1 1 dX11_numbers_168 rfl rfl ?_
        refine g_callS (fc := fun sς => Chk_from sς x1) (as := [iv x1]) q2002 mdX11_257 (ctX11_from x1) rfl (Nat.le_of_ble_eq_true rfl) (Nat.le_of_ble_eq_true rfl) (Nat.le_of_ble_eq_true rfl) pu_I dX11_numbers_169 (fun r2 σ1 => ?_)
        refine g_iload_n 1 1 dX11_numbers_172 rfl rfl ?_
        refine g_callS (fc := fun sς => Chk_to sς x1) (as := [iv x1]) q2005 mdX11_260 (ctX11_to x1) rfl (Nat.le_of_ble_eq_true rfl) (Nat.le_of_ble_eq_true rfl) (Nat.le_of_ble_eq_true rfl) pu_I dX11_numbers_173 (fun r4 σ3 => ?_)
        refine g_callVT (fc := fun sς => Chk_turn sς x0 r2 r4) (ci := 11) (as := [iv r2, iv r4]) rfl rfl rfl q1969 qs106 q1967 mdX11_161 (ctX11_turn x0 r2 r4) rfl (Nat.le_of_ble_eq_true rfl) (Nat.le_of_ble_eq_true rfl) (Nat.le_of_ble_eq_true rfl) pu_V (by decide) dX11_numbers_176 (fun _ σ5 => ?_)
        exact g_return rfl dX11_numbers_179
      · refine g_iload_n 1 1 dX11_numbers_124 rfl rfl ?_
        refine g_sipush (v := 153) dX11_numbers_125 (by decide) ?_
        refine g_icmp_ge 136 dX11_numbers_128 (by decide) ?_ ?_
        · refine g_bipush (v := 124) dX11_numbers_136 (by decide) ?_
          exact gX11_numbers_p138 _ _ _ _
        · refine g_bipush (v := 125) dX11_numbers_131 (by decide) ?_
          refine g_goto 138 dX11_numbers_133 (by decide) ?_
          exact gX11_numbers_p138 _ _ _ _
    · refine g_iload_n 1 1 dX11_numbers_77 rfl rfl ?_
      refine g_bipush (v := 121) dX11_numbers_78 (by decide) ?_
      refine g_icmp_ge 88 dX11_numbers_80 (by decide) ?_ ?_
      · refine g_bipush (v := 126) dX11_numbers_88 (by decide) ?_
        exact gX11_numbers_p90 _ _ _ _
      · refine g_bipush (v := 127) dX11_numbers_83 (by decide) ?_
        refine g_goto 90 dX11_numbers_85 (by decide) ?_
        exact gX11_numbers_p90 _ _ _ _
  · refine g_iload_n 1 1 dX11_numbers_6 rfl rfl ?_
    refine g_bipush (v := 80) dX11_numbers_7 (by decide) ?_
    refine g_icmp_ge 17 dX11_numbers_9 (by decide) ?_ ?_
    · refine g_iload_n 1 1 dX11_numbers_17 rfl rfl ?_
      refine g_bipush (v := 91) dX11_numbers_18 (by decide) ?_
      refine g_icmp_ge 28 dX11_numbers_20 (by decide) ?_ ?_
      · refine g_iload_n 1 1 dX11_numbers_28 rfl rfl ?_
        refine g_bipush (v := 97) dX11_numbers_29 (by decide) ?_
        refine g_icmp_ge 39 dX11_numbers_31 (by decide) ?_ ?_
        · refine g_bipush (v := 124) dX11_numbers_39 (by decide) ?_
          exact gX11_numbers_p41 _ _ _ _
        · refine g_bipush (v := 125) dX11_numbers_34 (by decide) ?_
          refine g_goto 41 dX11_numbers_36 (by decide) ?_
          exact gX11_numbers_p41 _ _ _ _
      · refine g_bipush (v := 126) dX11_numbers_23 (by decide) ?_
        refine g_goto 41 dX11_numbers_25 (by decide) ?_
        exact gX11_numbers_p41 _ _ _ _
    · refine g_bipush (v := 127) dX11_numbers_12 (by decide) ?_
      refine g_goto 41 dX11_numbers_14 (by decide) ?_
      exact gX11_numbers_p41 _ _ _ _
theorem V.dX11_references_0 : decode cX11_references 0 = .ok (.iload_n 1, 1) := by decide +kernel
theorem V.dX11_references_1 : decode cX11_references 1 = .ok (.sipush 208, 3) := by decide +kernel
theorem V.dX11_references_4 : decode cX11_references 4 = .ok (.if_icmp .ne 11, 3) := by decide +kernel
theorem V.dX11_references_7 : decode cX11_references 7 = .ok (.aload_n 0, 1) := by decide +kernel
theorem V.dX11_references_8 : decode cX11_references 8 = .ok (.iload_n 2, 1) := by decide +kernel
theorem V.dX11_references_9 : decode cX11_references 9 = .ok (.invokevirtual 152, 3) := by decide +kernel
theorem V.dX11_references_12 : decode cX11_references 12 = .ok (.goto 91, 3) := by decide +kernel
theorem V.dX11_references_15 : decode cX11_references 15 = .ok (.iload_n 1, 1) := by decide +kernel
theorem V.dX11_references_16 : decode cX11_references 16 = .ok (.sipush 209, 3) := by decide +kernel
theorem V.dX11_references_19 : decode cX11_references 19 = .ok (.if_icmp .ne 39, 3) := by decide +kernel
theorem V.dX11_references_22 : decode cX11_references 22 = .ok (.aload_n 0, 1) := by decide +kernel
theorem V.dX11_references_23 : decode cX11_references 23 = .ok (.invokevirtual 146, 3) := by decide +kernel
theorem V.dX11_references_26 : decode cX11_references 26 = .ok (.istore_n 3, 1) := by decide +kernel
theorem V.dX11_references_27 : decode cX11_references 27 = .ok (.aload_n 0, 1) := by decide +kernel
theorem V.dX11_references_28 : decode cX11_references 28 = .ok (.iload_n 3, 1) := by decide +kernel
theorem V.dX11_references_29 : decode cX11_references 29 = .ok (.ifCond .eq 10, 3) := by decide +kernel
theorem V.dX11_references_32 : decode cX11_references 32 = .ok (.iload_n 3, 1) := by decide +kernel
theorem V.dX11_references_33 : decode cX11_references 33 = .ok (.invokestatic 55, 3) := by decide +kernel
theorem V.dX11_references_36 : decode cX11_references 36 = .ok (.ifCond .eq 7, 3) := by decide +kernel
theorem V.dX11_references_39 : decode cX11_references 39 = .ok (.iconst 1, 1) := by decide +kernel
theorem V.dX11_references_40 : decode cX11_references 40 = .ok (.goto 4, 3) := by decide +kernel
theorem V.dX11_references_43 : decode cX11_references 43 = .ok (.iconst 0, 1) := by decide +kernel
theorem V.dX11_references_44 : decode cX11_references 44 = .ok (.bipush 7, 2) := by decide +kernel
theorem V.dX11_references_46 : decode cX11_references 46 = .ok (.invokevirtual 118, 3) := by decide +kernel
theorem V.dX11_references_49 : decode cX11_references 49 = .ok (.aload_n 0, 1) := by decide +kernel
theorem V.dX11_references_50 : decode cX11_references 50 = .ok (.bipush 127, 2) := by decide +kernel
theorem V.dX11_references_52 : decode cX11_references 52 = .ok (.invokevirtual 152, 3) := by decide +kernel
theorem V.dX11_references_55 : decode cX11_references 55 = .ok (.goto 48, 3) := by decide +kernel
theorem V.dX11_references_58 : decode cX11_references 58 = .ok (.aload_n 0, 1) := by decide +kernel
theorem V.dX11_references_59 : decode cX11_references 59 = .ok (.aload_n 0, 1) := by decide +kernel
theorem V.dX11_references_60 : decode cX11_references 60 = .ok (.getfield 44, 3) := by decide +kernel
theorem V.dX11_references_63 : decode cX11_references 63 = .ok (.getfield 209, 3) := by decide +kernel
theorem V.dX11_references_66 : decode cX11_references 66 = .ok (.iload_n 2, 1) := by decide +kernel
theorem V.dX11_references_67 : decode cX11_references 67 = .ok (.invokevirtual 214, 3) := by decide +kernel
theorem V.dX11_references_70 : decode cX11_references 70 = .ok (.pop, 1) := by decide +kernel
theorem V.dX11_references_71 : decode cX11_references 71 = .ok (.aload_n 0, 1) := by decide +kernel
theorem V.dX11_references_72 : decode cX11_references 72 = .ok (.aload_n 0, 1) := by decide +kernel
theorem V.dX11_references_73 : decode cX11_references 73 = .ok (.getfield 44, 3) := by decide +kernel
theorem V.dX11_references_76 : decode cX11_references 76 = .ok (.getfield 263, 3) := by decide +kernel
theorem V.dX11_references_79 : decode cX11_references 79 = .ok (.iload_n 2, 1) := by decide +kernel
theorem V.dX11_references_80 : decode cX11_references 80 = .ok (.invokevirtual 111, 3) := by decide +kernel
theorem V.dX11_references_83 : decode cX11_references 83 = .ok (.iconst 1, 1) := by decide +kernel
theorem V.dX11_references_84 : decode cX11_references 84 = .ok (.if_icmp .ne 7, 3) := by decide +kernel
theorem V.dX11_references_87 : decode cX11_references 87 = .ok (.iconst 1, 1) := by decide +kernel
theorem V.dX11_references_88 : decode cX11_references 88 = .ok (.goto 4, 3) := by decide +kernel
theorem V.dX11_references_91 : decode cX11_references 91 = .ok (.iconst 0, 1) := by decide +kernel
theorem V.dX11_references_92 : decode cX11_references 92 = .ok (.bipush 11, 2) := by decide +kernel
theorem V.dX11_references_94 : decode cX11_references 94 = .ok (.invokevirtual 118, 3) := by decide +kernel
theorem V.dX11_references_97 : decode cX11_references 97 = .ok (.aload_n 0, 1) := by decide +kernel
theorem V.dX11_references_98 : decode cX11_references 98 = .ok (.bipush 112, 2) := by decide +kernel
theorem V.dX11_references_100 : decode cX11_references 100 = .ok (.invokevirtual 152, 3) := by decide +kernel
theorem V.dX11_references_103 : decode cX11_references 103 = .ok (.return_, 1) := by decide +kernel
theorem V.fdX11_263 : FD RX11 263 10 1 2 := ⟨(RX10, TX10, 8), tyX10, rfl, rfl, in_X10, by decide, Or.inr ⟨_, q776⟩, rfl⟩
/-! ModuleEngine$Checker.references(II)V -/
def V.Chk_references_p92  (σ : HS) (x0 : Nat) (s0 : Int32) (s1 : Nat) : Option ((Nat ⊕ Unit) × HS) :=
  ck (tg σ s1 = 12) <| clT (Chk_need σ s1 s0 (11 : Int32)) fun _ σ1 =>
  ck (tg σ1 x0 = 12) <| clT (Chk_give σ1 x0 (112 : Int32)) fun _ σ2 =>
  some (.inr (), σ2)
theorem V.gX11_references_p92 {X : CX}  (σ : HS) (x0 : Nat) (s0 : Int32) (s1 : Nat) : G X RX11 "references" cX11_references 4 none 9 150 (enX enV (cxz X)) 92 [(0, av x0)] [iv s0, av s1] σ (Chk_references_p92 σ x0 s0 s1) := by
  unfold Chk_references_p92
  refine g_bipush (v := 11) dX11_references_92 (by decide) ?_
  refine g_callVT (fc := fun sς => Chk_need sς s1 s0 (11 : Int32)) (ci := 11) (as := [iv s0, iv (11 : Int32)]) rfl rfl rfl q1746 qs73 q1744 mdX11_118 (ctX11_need s1 s0 (11 : Int32)) rfl (Nat.le_of_ble_eq_true rfl) (Nat.le_of_ble_eq_true rfl) (Nat.le_of_ble_eq_true rfl) pu_V (by decide) dX11_references_94 (fun _ σ1 => ?_)
  refine g_aload_n 0 0 dX11_references_97 rfl rfl ?_
  refine g_bipush (v := 112) dX11_references_98 (by decide) ?_
  refine g_callVT (fc := fun sς => Chk_give sς x0 (112 : Int32)) (ci := 11) (as := [iv (112 : Int32)]) rfl rfl rfl q1857 qs85 q1855 mdX11_152 (ctX11_give x0 (112 : Int32)) rfl (Nat.le_of_ble_eq_true rfl) (Nat.le_of_ble_eq_true rfl) (Nat.le_of_ble_eq_true rfl) pu_V (by decide) dX11_references_100 (fun _ σ2 => ?_)
  exact g_return rfl dX11_references_103
def V.Chk_references_p44  (σ : HS) (x0 : Nat) (s0 : Int32) (s1 : Nat) : Option ((Nat ⊕ Unit) × HS) :=
  ck (tg σ s1 = 12) <| clT (Chk_need σ s1 s0 (7 : Int32)) fun _ σ1 =>
  ck (tg σ1 x0 = 12) <| clT (Chk_give σ1 x0 (127 : Int32)) fun _ σ2 =>
  some (.inr (), σ2)
theorem V.gX11_references_p44 {X : CX}  (σ : HS) (x0 : Nat) (s0 : Int32) (s1 : Nat) : G X RX11 "references" cX11_references 4 none 9 150 (enX enV (cxz X)) 44 [(0, av x0)] [iv s0, av s1] σ (Chk_references_p44 σ x0 s0 s1) := by
  unfold Chk_references_p44
  refine g_bipush (v := 7) dX11_references_44 (by decide) ?_
  refine g_callVT (fc := fun sς => Chk_need sς s1 s0 (7 : Int32)) (ci := 11) (as := [iv s0, iv (7 : Int32)]) rfl rfl rfl q1746 qs73 q1744 mdX11_118 (ctX11_need s1 s0 (7 : Int32)) rfl (Nat.le_of_ble_eq_true rfl) (Nat.le_of_ble_eq_true rfl) (Nat.le_of_ble_eq_true rfl) pu_V (by decide) dX11_references_46 (fun _ σ1 => ?_)
  refine g_aload_n 0 0 dX11_references_49 rfl rfl ?_
  refine g_bipush (v := 127) dX11_references_50 (by decide) ?_
  refine g_callVT (fc := fun sς => Chk_give sς x0 (127 : Int32)) (ci := 11) (as := [iv (127 : Int32)]) rfl rfl rfl q1857 qs85 q1855 mdX11_152 (ctX11_give x0 (127 : Int32)) rfl (Nat.le_of_ble_eq_true rfl) (Nat.le_of_ble_eq_true rfl) (Nat.le_of_ble_eq_true rfl) pu_V (by decide) dX11_references_52 (fun _ σ2 => ?_)
  refine g_goto 103 dX11_references_55 (by decide) ?_
  exact g_return rfl dX11_references_103
def V.Chk_references_p39  (σ : HS) (x0 : Nat) (s0 : Nat) : Option ((Nat ⊕ Unit) × HS) :=
  Chk_references_p44 σ x0 (1 : Int32) s0
theorem V.gX11_references_p39 {X : CX}  (σ : HS) (x0 : Nat) (s0 : Nat) : G X RX11 "references" cX11_references 4 none 9 150 (enX enV (cxz X)) 39 [(0, av x0)] [av s0] σ (Chk_references_p39 σ x0 s0) := by
  unfold Chk_references_p39
  refine g_iconst (v := 1) dX11_references_39 (by decide) ?_
  refine g_goto 44 dX11_references_40 (by decide) ?_
  exact gX11_references_p44 _ _ _ _
def V.Chk_references (σ : HS) (x0 : Nat) (x1 : Int32) (x2 : Int32) : Option ((Nat ⊕ Unit) × HS) :=
  if x1 = (208 : Int32) then (
    ck (tg σ x0 = 12) <| clT (Chk_give σ x0 x2) fun _ σ9 =>
    some (.inr (), σ9))
  else (
    if x1 = (209 : Int32) then (
      ck (tg σ x0 = 12) <| clT (Chk_takeAny σ x0 ) fun r6 σ5 =>
      if r6 = 0 then (
        Chk_references_p39 σ5 x0 x0)
      else (
        cl (Chk_isReference σ5 r6) fun r8 σ7 =>
        if r8 = 0 then (
          Chk_references_p44 σ7 x0 (0 : Int32) x0)
        else (
          Chk_references_p39 σ7 x0 x0)))
    else (
      ck (tg σ x0 = 12) <|
      ck (tg σ (gR σ x0 1) = 11) <|
      ck (tg σ x0 = 12) <| clT (Chk_named σ x0 (gR σ (gR σ x0 1) 0) x2) fun r2 σ1 =>
      ck (tg σ1 x0 = 12) <|
      ck (tg σ1 (gR σ1 x0 1) = 11) <|
      ck (tg σ1 (gR σ1 (gR σ1 x0 1) 1) = 4) <| cl (Row_at σ1 (gR σ1 (gR σ1 x0 1) 1) x2) fun r4 σ3 =>
      if r4 = (1 : Int32) then (
        Chk_references_p92 σ3 x0 (1 : Int32) x0)
      else (
        Chk_references_p92 σ3 x0 (0 : Int32) x0)))
theorem V.ctX11_references (x0 : Nat) (x1 : Int32) (x2 : Int32) : Ct yX11_references  cX11_references 4 none 9 150 eXV [av x0, iv x1, iv x2] (fun σ => Chk_references σ x0 x1 x2) := by
  refine Ct.of (own := RX11) (nm := "references") (desc := "(II)V") rfl (by decide) (Nat.le_of_ble_eq_true rfl) (by decide) (fun X σ => ?_)
  show G X RX11 "references" cX11_references 4 none 9 150 (enX enV (cxz X)) 0 [(0, av x0), (1, iv x1), (2, iv x2)] [] σ (Chk_references σ x0 x1 x2)
  unfold Chk_references
  refine g_iload_n 1 1 dX11_references_0 rfl rfl ?_
  refine g_sipush (v := 208) dX11_references_1 (by decide) ?_
  refine g_icmp_ne 15 dX11_references_4 (by decide) ?_ ?_
  · refine g_iload_n 1 1 dX11_references_15 rfl rfl ?_
    refine g_sipush (v := 209) dX11_references_16 (by decide) ?_
    refine g_icmp_ne 58 dX11_references_19 (by decide) ?_ ?_
    · refine g_aload_n 0 0 dX11_references_58 rfl rfl ?_
      refine g_aload_n 0 0 dX11_references_59 rfl rfl ?_
      refine g_getR fdX11_44 dX11_references_60 ?_
      refine g_getR fdX11_209 dX11_references_63 ?_
      refine g_iload_n 2 2 dX11_references_66 rfl rfl ?_
      refine g_callVT (fc := fun sς => Chk_named sς x0 (gR σ (gR σ x0 1) 0) x2) (ci := 11) (as := [av (gR σ (gR σ x0 1) 0), iv x2]) rfl rfl rfl q1945 qs100 q1943 mdX11_214 (ctX11_named x0 (gR σ (gR σ x0 1) 0) x2) rfl (Nat.le_of_ble_eq_true rfl) (Nat.le_of_ble_eq_true rfl) (Nat.le_of_ble_eq_true rfl) pu_I (by decide) dX11_references_67 (fun r2 σ1 => ?_)
      refine g_pop dX11_references_70 rfl ?_
      refine g_aload_n 0 0 dX11_references_71 rfl rfl ?_
      refine g_aload_n 0 0 dX11_references_72 rfl rfl ?_
      refine g_getR fdX11_44 dX11_references_73 ?_
      refine g_getR fdX11_263 dX11_references_76 ?_
      refine g_iload_n 2 2 dX11_references_79 rfl rfl ?_
      refine g_callV (fc := fun sς => Row_at sς (gR σ1 (gR σ1 x0 1) 1) x2) (ci := 3) (as := [iv x2]) rfl rfl rfl q1409 q1410 mdX11_111 (ctX3_at (gR σ1 (gR σ1 x0 1) 1) x2) rfl (Nat.le_of_ble_eq_true rfl) (Nat.le_of_ble_eq_true rfl) (Nat.le_of_ble_eq_true rfl) pu_I dX11_references_80 (fun r4 σ3 => ?_)
      refine g_iconst (v := 1) dX11_references_83 (by decide) ?_
      refine g_icmp_ne 91 dX11_references_84 (by decide) ?_ ?_
      · refine g_iconst (v := 0) dX11_references_91 (by decide) ?_
        refine G.sub [0] rfl ?_
        exact gX11_references_p92 _ _ _ _
      · refine g_iconst (v := 1) dX11_references_87 (by decide) ?_
        refine g_goto 92 dX11_references_88 (by decide) ?_
        refine G.sub [0] rfl ?_
        exact gX11_references_p92 _ _ _ _
    · refine g_aload_n 0 0 dX11_references_22 rfl rfl ?_
      refine g_callVT (fc := fun sς => Chk_takeAny sς x0 ) (ci := 11) (as := []) rfl rfl rfl q1841 qs81 q1839 mdX11_146 (ctX11_takeAny x0 ) rfl (Nat.le_of_ble_eq_true rfl) (Nat.le_of_ble_eq_true rfl) (Nat.le_of_ble_eq_true rfl) pu_I (by decide) dX11_references_23 (fun r6 σ5 => ?_)
      refine g_istore_n 3 dX11_references_26 rfl (by decide) rfl ?_
      refine g_aload_n 0 1 dX11_references_27 rfl rfl ?_
      refine g_iload_n 3 0 dX11_references_28 rfl rfl ?_
      refine g_if_eq 39 dX11_references_29 (by decide) ?_ ?_
      · refine G.sub [1] rfl ?_
        exact gX11_references_p39 _ _ _
      · refine g_iload_n 3 0 dX11_references_32 rfl rfl ?_
        refine g_callS (fc := fun sς => Chk_isReference sς r6) (as := [iv r6]) q1802 mdX11_55 (ctX11_isReference r6) rfl (Nat.le_of_ble_eq_true rfl) (Nat.le_of_ble_eq_true rfl) (Nat.le_of_ble_eq_true rfl) pu_I dX11_references_33 (fun r8 σ7 => ?_)
        refine g_if_eq 43 dX11_references_36 (by decide) ?_ ?_
        · refine g_iconst (v := 0) dX11_references_43 (by decide) ?_
          refine G.sub [1] rfl ?_
          exact gX11_references_p44 _ _ _ _
        · refine G.sub [1] rfl ?_
          exact gX11_references_p39 _ _ _
  · refine g_aload_n 0 0 dX11_references_7 rfl rfl ?_
    refine g_iload_n 2 2 dX11_references_8 rfl rfl ?_
    refine g_callVT (fc := fun sς => Chk_give sς x0 x2) (ci := 11) (as := [iv x2]) rfl rfl rfl q1857 qs85 q1855 mdX11_152 (ctX11_give x0 x2) rfl (Nat.le_of_ble_eq_true rfl) (Nat.le_of_ble_eq_true rfl) (Nat.le_of_ble_eq_true rfl) pu_V (by decide) dX11_references_9 (fun _ σ9 => ?_)
    refine g_goto 103 dX11_references_12 (by decide) ?_
    exact g_return rfl dX11_references_103
theorem V.dX11_three_0 : decode cX11_three 0 = .ok (.aload_n 0, 1) := by decide +kernel
theorem V.dX11_three_1 : decode cX11_three 1 = .ok (.bipush 127, 2) := by decide +kernel
theorem V.dX11_three_3 : decode cX11_three 3 = .ok (.invokevirtual 149, 3) := by decide +kernel
theorem V.dX11_three_6 : decode cX11_three 6 = .ok (.pop, 1) := by decide +kernel
theorem V.dX11_three_7 : decode cX11_three 7 = .ok (.aload_n 0, 1) := by decide +kernel
theorem V.dX11_three_8 : decode cX11_three 8 = .ok (.bipush 127, 2) := by decide +kernel
theorem V.dX11_three_10 : decode cX11_three 10 = .ok (.invokevirtual 149, 3) := by decide +kernel
theorem V.dX11_three_13 : decode cX11_three 13 = .ok (.pop, 1) := by decide +kernel
theorem V.dX11_three_14 : decode cX11_three 14 = .ok (.aload_n 0, 1) := by decide +kernel
theorem V.dX11_three_15 : decode cX11_three 15 = .ok (.bipush 127, 2) := by decide +kernel
theorem V.dX11_three_17 : decode cX11_three 17 = .ok (.invokevirtual 149, 3) := by decide +kernel
theorem V.dX11_three_20 : decode cX11_three 20 = .ok (.pop, 1) := by decide +kernel
theorem V.dX11_three_21 : decode cX11_three 21 = .ok (.return_, 1) := by decide +kernel
/-! ModuleEngine$Checker.three()V -/
def V.Chk_three (σ : HS) (x0 : Nat) : Option ((Nat ⊕ Unit) × HS) :=
  ck (tg σ x0 = 12) <| clT (Chk_take σ x0 (127 : Int32)) fun r2 σ1 =>
  ck (tg σ1 x0 = 12) <| clT (Chk_take σ1 x0 (127 : Int32)) fun r4 σ3 =>
  ck (tg σ3 x0 = 12) <| clT (Chk_take σ3 x0 (127 : Int32)) fun r6 σ5 =>
  some (.inr (), σ5)
theorem V.ctX11_three (x0 : Nat) : Ct yX11_three  cX11_three 1 none 10 171 eXV [av x0] (fun σ => Chk_three σ x0) := by
  refine Ct.of (own := RX11) (nm := "three") (desc := "()V") rfl (by decide) (Nat.le_of_ble_eq_true rfl) (by decide) (fun X σ => ?_)
  show G X RX11 "three" cX11_three 1 none 10 171 (enX enV (cxz X)) 0 [(0, av x0)] [] σ (Chk_three σ x0)
  unfold Chk_three
  refine g_aload_n 0 0 dX11_three_0 rfl rfl ?_
  refine g_bipush (v := 127) dX11_three_1 (by decide) ?_
  refine g_callVT (fc := fun sς => Chk_take sς x0 (127 : Int32)) (ci := 11) (as := [iv (127 : Int32)]) rfl rfl rfl q1837 qs80 q1835 mdX11_149 (ctX11_take x0 (127 : Int32)) rfl (Nat.le_of_ble_eq_true rfl) (Nat.le_of_ble_eq_true rfl) (Nat.le_of_ble_eq_true rfl) pu_I (by decide) dX11_three_3 (fun r2 σ1 => ?_)
  refine g_pop dX11_three_6 rfl ?_
  refine g_aload_n 0 0 dX11_three_7 rfl rfl ?_
  refine g_bipush (v := 127) dX11_three_8 (by decide) ?_
  refine g_callVT (fc := fun sς => Chk_take sς x0 (127 : Int32)) (ci := 11) (as := [iv (127 : Int32)]) rfl rfl rfl q1837 qs80 q1835 mdX11_149 (ctX11_take x0 (127 : Int32)) rfl (Nat.le_of_ble_eq_true rfl) (Nat.le_of_ble_eq_true rfl) (Nat.le_of_ble_eq_true rfl) pu_I (by decide) dX11_three_10 (fun r4 σ3 => ?_)
  refine g_pop dX11_three_13 rfl ?_
  refine g_aload_n 0 0 dX11_three_14 rfl rfl ?_
  refine g_bipush (v := 127) dX11_three_15 (by decide) ?_
  refine g_callVT (fc := fun sς => Chk_take sς x0 (127 : Int32)) (ci := 11) (as := [iv (127 : Int32)]) rfl rfl rfl q1837 qs80 q1835 mdX11_149 (ctX11_take x0 (127 : Int32)) rfl (Nat.le_of_ble_eq_true rfl) (Nat.le_of_ble_eq_true rfl) (Nat.le_of_ble_eq_true rfl) pu_I (by decide) dX11_three_17 (fun r6 σ5 => ?_)
  refine g_pop dX11_three_20 rfl ?_
  exact g_return rfl dX11_three_21
theorem V.dX11_stretches_0 : decode cX11_stretches 0 = .ok (.iload_n 1, 1) := by decide +kernel
theorem V.dX11_stretches_1 : decode cX11_stretches 1 = .ok (.tableswitch 244 264 272 #[51, 51, 97, 97, 108, 174, 108, 190, 222], 51) := by decide +kernel
theorem V.dX11_stretches_52 : decode cX11_stretches 52 = .ok (.aload_n 0, 1) := by decide +kernel
theorem V.dX11_stretches_53 : decode cX11_stretches 53 = .ok (.iload_n 2, 1) := by decide +kernel
theorem V.dX11_stretches_54 : decode cX11_stretches 54 = .ok (.invokestatic 114, 3) := by decide +kernel
theorem V.dX11_stretches_57 : decode cX11_stretches 57 = .ok (.aload_n 0, 1) := by decide +kernel
theorem V.dX11_stretches_58 : decode cX11_stretches 58 = .ok (.getfield 44, 3) := by decide +kernel
theorem V.dX11_stretches_61 : decode cX11_stretches 61 = .ok (.getfield 266, 3) := by decide +kernel
theorem V.dX11_stretches_64 : decode cX11_stretches 64 = .ok (.i2l, 1) := by decide +kernel
theorem V.dX11_stretches_65 : decode cX11_stretches 65 = .ok (.lcmp, 1) := by decide +kernel
theorem V.dX11_stretches_66 : decode cX11_stretches 66 = .ok (.ifCond .ge 7, 3) := by decide +kernel
theorem V.dX11_stretches_69 : decode cX11_stretches 69 = .ok (.iconst 1, 1) := by decide +kernel
theorem V.dX11_stretches_70 : decode cX11_stretches 70 = .ok (.goto 4, 3) := by decide +kernel
theorem V.dX11_stretches_73 : decode cX11_stretches 73 = .ok (.iconst 0, 1) := by decide +kernel
theorem V.dX11_stretches_74 : decode cX11_stretches 74 = .ok (.bipush 12, 2) := by decide +kernel
theorem V.dX11_stretches_76 : decode cX11_stretches 76 = .ok (.invokevirtual 118, 3) := by decide +kernel
theorem V.dX11_stretches_79 : decode cX11_stretches 79 = .ok (.iload_n 1, 1) := by decide +kernel
theorem V.dX11_stretches_80 : decode cX11_stretches 80 = .ok (.sipush 265, 3) := by decide +kernel
theorem V.dX11_stretches_83 : decode cX11_stretches 83 = .ok (.if_icmp .ne 4, 3) := by decide +kernel
theorem V.dX11_stretches_86 : decode cX11_stretches 86 = .ok (.return_, 1) := by decide +kernel
theorem V.dX11_stretches_87 : decode cX11_stretches 87 = .ok (.aload_n 0, 1) := by decide +kernel
theorem V.dX11_stretches_88 : decode cX11_stretches 88 = .ok (.invokevirtual 248, 3) := by decide +kernel
theorem V.dX11_stretches_91 : decode cX11_stretches 91 = .ok (.aload_n 0, 1) := by decide +kernel
theorem V.dX11_stretches_92 : decode cX11_stretches 92 = .ok (.invokevirtual 269, 3) := by decide +kernel
theorem V.dX11_stretches_95 : decode cX11_stretches 95 = .ok (.goto 185, 3) := by decide +kernel
theorem V.dX11_stretches_98 : decode cX11_stretches 98 = .ok (.aload_n 0, 1) := by decide +kernel
theorem V.dX11_stretches_99 : decode cX11_stretches 99 = .ok (.invokevirtual 248, 3) := by decide +kernel
theorem V.dX11_stretches_102 : decode cX11_stretches 102 = .ok (.aload_n 0, 1) := by decide +kernel
theorem V.dX11_stretches_103 : decode cX11_stretches 103 = .ok (.invokevirtual 269, 3) := by decide +kernel
theorem V.dX11_stretches_106 : decode cX11_stretches 106 = .ok (.goto 174, 3) := by decide +kernel
theorem V.dX11_stretches_109 : decode cX11_stretches 109 = .ok (.aload_n 0, 1) := by decide +kernel
theorem V.dX11_stretches_110 : decode cX11_stretches 110 = .ok (.iload_n 1, 1) := by decide +kernel
theorem V.dX11_stretches_111 : decode cX11_stretches 111 = .ok (.sipush 268, 3) := by decide +kernel
theorem V.dX11_stretches_114 : decode cX11_stretches 114 = .ok (.if_icmp .ne 13, 3) := by decide +kernel
theorem V.dX11_stretches_117 : decode cX11_stretches 117 = .ok (.aload_n 0, 1) := by decide +kernel
theorem V.dX11_stretches_118 : decode cX11_stretches 118 = .ok (.getfield 44, 3) := by decide +kernel
theorem V.dX11_stretches_121 : decode cX11_stretches 121 = .ok (.getfield 272, 3) := by decide +kernel
theorem V.dX11_stretches_124 : decode cX11_stretches 124 = .ok (.goto 10, 3) := by decide +kernel
theorem V.dX11_stretches_127 : decode cX11_stretches 127 = .ok (.aload_n 0, 1) := by decide +kernel
theorem V.dX11_stretches_128 : decode cX11_stretches 128 = .ok (.getfield 44, 3) := by decide +kernel
theorem V.dX11_stretches_131 : decode cX11_stretches 131 = .ok (.getfield 224, 3) := by decide +kernel
theorem V.dX11_stretches_134 : decode cX11_stretches 134 = .ok (.iload_n 2, 1) := by decide +kernel
theorem V.dX11_stretches_135 : decode cX11_stretches 135 = .ok (.invokevirtual 214, 3) := by decide +kernel
theorem V.dX11_stretches_138 : decode cX11_stretches 138 = .ok (.istore 4, 2) := by decide +kernel
theorem V.dX11_stretches_140 : decode cX11_stretches 140 = .ok (.aload_n 0, 1) := by decide +kernel
theorem V.dX11_stretches_141 : decode cX11_stretches 141 = .ok (.iload 4, 2) := by decide +kernel
theorem V.dX11_stretches_143 : decode cX11_stretches 143 = .ok (.aload_n 0, 1) := by decide +kernel
theorem V.dX11_stretches_144 : decode cX11_stretches 144 = .ok (.aload_n 0, 1) := by decide +kernel
theorem V.dX11_stretches_145 : decode cX11_stretches 145 = .ok (.getfield 44, 3) := by decide +kernel
theorem V.dX11_stretches_148 : decode cX11_stretches 148 = .ok (.getfield 224, 3) := by decide +kernel
theorem V.dX11_stretches_151 : decode cX11_stretches 151 = .ok (.iload_n 3, 1) := by decide +kernel
theorem V.dX11_stretches_152 : decode cX11_stretches 152 = .ok (.invokevirtual 214, 3) := by decide +kernel
theorem V.dX11_stretches_155 : decode cX11_stretches 155 = .ok (.if_icmp .ne 7, 3) := by decide +kernel
theorem V.dX11_stretches_158 : decode cX11_stretches 158 = .ok (.iconst 1, 1) := by decide +kernel
theorem V.dX11_stretches_159 : decode cX11_stretches 159 = .ok (.goto 4, 3) := by decide +kernel
theorem V.dX11_stretches_162 : decode cX11_stretches 162 = .ok (.iconst 0, 1) := by decide +kernel
theorem V.dX11_stretches_163 : decode cX11_stretches 163 = .ok (.bipush 6, 2) := by decide +kernel
theorem V.dX11_stretches_165 : decode cX11_stretches 165 = .ok (.invokevirtual 118, 3) := by decide +kernel
theorem V.dX11_stretches_168 : decode cX11_stretches 168 = .ok (.aload_n 0, 1) := by decide +kernel
theorem V.dX11_stretches_169 : decode cX11_stretches 169 = .ok (.invokevirtual 269, 3) := by decide +kernel
theorem V.dX11_stretches_172 : decode cX11_stretches 172 = .ok (.goto 108, 3) := by decide +kernel
theorem V.dX11_stretches_175 : decode cX11_stretches 175 = .ok (.aload_n 0, 1) := by decide +kernel
theorem V.dX11_stretches_176 : decode cX11_stretches 176 = .ok (.aload_n 0, 1) := by decide +kernel
theorem V.dX11_stretches_177 : decode cX11_stretches 177 = .ok (.getfield 44, 3) := by decide +kernel
theorem V.dX11_stretches_180 : decode cX11_stretches 180 = .ok (.getfield 272, 3) := by decide +kernel
theorem V.dX11_stretches_183 : decode cX11_stretches 183 = .ok (.iload_n 2, 1) := by decide +kernel
theorem V.dX11_stretches_184 : decode cX11_stretches 184 = .ok (.invokevirtual 214, 3) := by decide +kernel
theorem V.dX11_stretches_187 : decode cX11_stretches 187 = .ok (.pop, 1) := by decide +kernel
theorem V.dX11_stretches_188 : decode cX11_stretches 188 = .ok (.goto 92, 3) := by decide +kernel
theorem V.dX11_stretches_191 : decode cX11_stretches 191 = .ok (.aload_n 0, 1) := by decide +kernel
theorem V.dX11_stretches_192 : decode cX11_stretches 192 = .ok (.aload_n 0, 1) := by decide +kernel
theorem V.dX11_stretches_193 : decode cX11_stretches 193 = .ok (.getfield 44, 3) := by decide +kernel
theorem V.dX11_stretches_196 : decode cX11_stretches 196 = .ok (.getfield 224, 3) := by decide +kernel
theorem V.dX11_stretches_199 : decode cX11_stretches 199 = .ok (.iload_n 2, 1) := by decide +kernel
theorem V.dX11_stretches_200 : decode cX11_stretches 200 = .ok (.invokevirtual 214, 3) := by decide +kernel
theorem V.dX11_stretches_203 : decode cX11_stretches 203 = .ok (.istore 5, 2) := by decide +kernel
theorem V.dX11_stretches_205 : decode cX11_stretches 205 = .ok (.aload_n 0, 1) := by decide +kernel
theorem V.dX11_stretches_206 : decode cX11_stretches 206 = .ok (.bipush 127, 2) := by decide +kernel
theorem V.dX11_stretches_208 : decode cX11_stretches 208 = .ok (.invokevirtual 149, 3) := by decide +kernel
theorem V.dX11_stretches_211 : decode cX11_stretches 211 = .ok (.pop, 1) := by decide +kernel
theorem V.dX11_stretches_212 : decode cX11_stretches 212 = .ok (.aload_n 0, 1) := by decide +kernel
theorem V.dX11_stretches_213 : decode cX11_stretches 213 = .ok (.iload 5, 2) := by decide +kernel
theorem V.dX11_stretches_215 : decode cX11_stretches 215 = .ok (.bipush 127, 2) := by decide +kernel
theorem V.dX11_stretches_217 : decode cX11_stretches 217 = .ok (.invokevirtual 161, 3) := by decide +kernel
theorem V.dX11_stretches_220 : decode cX11_stretches 220 = .ok (.goto 60, 3) := by decide +kernel
theorem V.dX11_stretches_223 : decode cX11_stretches 223 = .ok (.aload_n 0, 1) := by decide +kernel
theorem V.dX11_stretches_224 : decode cX11_stretches 224 = .ok (.aload_n 0, 1) := by decide +kernel
theorem V.dX11_stretches_225 : decode cX11_stretches 225 = .ok (.getfield 44, 3) := by decide +kernel
theorem V.dX11_stretches_228 : decode cX11_stretches 228 = .ok (.getfield 224, 3) := by decide +kernel
theorem V.dX11_stretches_231 : decode cX11_stretches 231 = .ok (.iload_n 2, 1) := by decide +kernel
theorem V.dX11_stretches_232 : decode cX11_stretches 232 = .ok (.invokevirtual 214, 3) := by decide +kernel
theorem V.dX11_stretches_235 : decode cX11_stretches 235 = .ok (.pop, 1) := by decide +kernel
theorem V.dX11_stretches_236 : decode cX11_stretches 236 = .ok (.aload_n 0, 1) := by decide +kernel
theorem V.dX11_stretches_237 : decode cX11_stretches 237 = .ok (.bipush 127, 2) := by decide +kernel
theorem V.dX11_stretches_239 : decode cX11_stretches 239 = .ok (.invokevirtual 152, 3) := by decide +kernel
theorem V.dX11_stretches_242 : decode cX11_stretches 242 = .ok (.goto 38, 3) := by decide +kernel
theorem V.dX11_stretches_245 : decode cX11_stretches 245 = .ok (.aload_n 0, 1) := by decide +kernel
theorem V.dX11_stretches_246 : decode cX11_stretches 246 = .ok (.aload_n 0, 1) := by decide +kernel
theorem V.dX11_stretches_247 : decode cX11_stretches 247 = .ok (.getfield 44, 3) := by decide +kernel
theorem V.dX11_stretches_250 : decode cX11_stretches 250 = .ok (.getfield 224, 3) := by decide +kernel
theorem V.dX11_stretches_253 : decode cX11_stretches 253 = .ok (.iload_n 2, 1) := by decide +kernel
theorem V.dX11_stretches_254 : decode cX11_stretches 254 = .ok (.invokevirtual 214, 3) := by decide +kernel
theorem V.dX11_stretches_257 : decode cX11_stretches 257 = .ok (.istore 6, 2) := by decide +kernel
theorem V.dX11_stretches_259 : decode cX11_stretches 259 = .ok (.aload_n 0, 1) := by decide +kernel
theorem V.dX11_stretches_260 : decode cX11_stretches 260 = .ok (.bipush 127, 2) := by decide +kernel
theorem V.dX11_stretches_262 : decode cX11_stretches 262 = .ok (.invokevirtual 149, 3) := by decide +kernel
theorem V.dX11_stretches_265 : decode cX11_stretches 265 = .ok (.pop, 1) := by decide +kernel
theorem V.dX11_stretches_266 : decode cX11_stretches 266 = .ok (.aload_n 0, 1) := by decide +kernel
theorem V.dX11_stretches_267 : decode cX11_stretches 267 = .ok (.iload 6, 2) := by decide +kernel
theorem V.dX11_stretches_269 : decode cX11_stretches 269 = .ok (.invokevirtual 149, 3) := by decide +kernel
theorem V.dX11_stretches_272 : decode cX11_stretches 272 = .ok (.pop, 1) := by decide +kernel
theorem V.dX11_stretches_273 : decode cX11_stretches 273 = .ok (.aload_n 0, 1) := by decide +kernel
theorem V.dX11_stretches_274 : decode cX11_stretches 274 = .ok (.bipush 127, 2) := by decide +kernel
theorem V.dX11_stretches_276 : decode cX11_stretches 276 = .ok (.invokevirtual 149, 3) := by decide +kernel
theorem V.dX11_stretches_279 : decode cX11_stretches 279 = .ok (.pop, 1) := by decide +kernel
theorem V.dX11_stretches_280 : decode cX11_stretches 280 = .ok (.return_, 1) := by decide +kernel
theorem V.fdX11_272 : FD RX11 272 10 5 2 := ⟨(RX10, TX10, 8), tyX10, rfl, rfl, in_X10, by decide, Or.inr ⟨_, q788⟩, rfl⟩
theorem V.fdX11_266 : FD RX11 266 10 7 0 := ⟨(RX10, TX10, 8), tyX10, rfl, rfl, in_X10, by decide, Or.inr ⟨_, q792⟩, rfl⟩
theorem V.mdX11_269 : MD RX11 269 yX11_three cX11_three 1 none 0 := ⟨Or.inl q2015, q371, q2018, by decide, by decide, by decide +kernel⟩
/-! ModuleEngine$Checker.stretches(III)V -/
def V.Chk_stretches_p74  (σ : HS) (x0 : Nat) (x1 : Int32) (s0 : Int32) (s1 : Nat) : Option ((Nat ⊕ Unit) × HS) :=
  ck (tg σ s1 = 12) <| clT (Chk_need σ s1 s0 (12 : Int32)) fun _ σ1 =>
  if x1 = (265 : Int32) then (
    some (.inr (), σ1))
  else (
    ck (tg σ1 x0 = 12) <| clT (Chk_needMemory σ1 x0 ) fun _ σ2 =>
    ck (tg σ2 x0 = 12) <| clT (Chk_three σ2 x0 ) fun _ σ3 =>
    some (.inr (), σ3))
theorem V.gX11_stretches_p74 {X : CX}  (σ : HS) (x0 : Nat) (x1 : Int32) (s0 : Int32) (s1 : Nat) : G X RX11 "stretches" cX11_stretches 7 none 11 193 (enX enV (cxz X)) 74 [(0, av x0), (1, iv x1)] [iv s0, av s1] σ (Chk_stretches_p74 σ x0 x1 s0 s1) := by
  unfold Chk_stretches_p74
  refine g_bipush (v := 12) dX11_stretches_74 (by decide) ?_
  refine g_callVT (fc := fun sς => Chk_need sς s1 s0 (12 : Int32)) (ci := 11) (as := [iv s0, iv (12 : Int32)]) rfl rfl rfl q1746 qs73 q1744 mdX11_118 (ctX11_need s1 s0 (12 : Int32)) rfl (Nat.le_of_ble_eq_true rfl) (Nat.le_of_ble_eq_true rfl) (Nat.le_of_ble_eq_true rfl) pu_V (by decide) dX11_stretches_76 (fun _ σ1 => ?_)
  refine g_iload_n 1 1 dX11_stretches_79 rfl rfl ?_
  refine g_sipush (v := 265) dX11_stretches_80 (by decide) ?_
  refine g_icmp_ne 87 dX11_stretches_83 (by decide) ?_ ?_
  · refine g_aload_n 0 0 dX11_stretches_87 rfl rfl ?_
    refine g_callVT (fc := fun sς => Chk_needMemory sς x0 ) (ci := 11) (as := []) rfl rfl rfl q1989 qs111 q1987 mdX11_248 (ctX11_needMemory x0 ) rfl (Nat.le_of_ble_eq_true rfl) (Nat.le_of_ble_eq_true rfl) (Nat.le_of_ble_eq_true rfl) pu_V (by decide) dX11_stretches_88 (fun _ σ2 => ?_)
    refine g_aload_n 0 0 dX11_stretches_91 rfl rfl ?_
    refine g_callVT (fc := fun sς => Chk_three sς x0 ) (ci := 11) (as := []) rfl rfl rfl q2017 qs115 q2015 mdX11_269 (ctX11_three x0 ) rfl (Nat.le_of_ble_eq_true rfl) (Nat.le_of_ble_eq_true rfl) (Nat.le_of_ble_eq_true rfl) pu_V (by decide) dX11_stretches_92 (fun _ σ3 => ?_)
    refine g_goto 280 dX11_stretches_95 (by decide) ?_
    exact g_return rfl dX11_stretches_280
  · exact g_return rfl dX11_stretches_86
def V.Chk_stretches_p52  (σ : HS) (x0 : Nat) (x1 : Int32) (x2 : Int32) : Option ((Nat ⊕ Unit) × HS) :=
  cl (Chk_wide σ x2) fun r2 σ1 =>
  ck (tg σ1 x0 = 12) <|
  ck (tg σ1 (gR σ1 x0 1) = 11) <|
  if ((gI σ1 (gR σ1 x0 1) 7).toInt64) ≤ r2 then (
    Chk_stretches_p74 σ1 x0 x1 (0 : Int32) x0)
  else (
    Chk_stretches_p74 σ1 x0 x1 (1 : Int32) x0)
theorem V.gX11_stretches_p52 {X : CX}  (σ : HS) (x0 : Nat) (x1 : Int32) (x2 : Int32) : G X RX11 "stretches" cX11_stretches 7 none 11 193 (enX enV (cxz X)) 52 [(0, av x0), (1, iv x1), (2, iv x2)] [] σ (Chk_stretches_p52 σ x0 x1 x2) := by
  unfold Chk_stretches_p52
  refine g_aload_n 0 0 dX11_stretches_52 rfl rfl ?_
  refine g_iload_n 2 2 dX11_stretches_53 rfl rfl ?_
  refine g_callS (fc := fun sς => Chk_wide sς x2) (as := [iv x2]) q1919 mdX11_114 (ctX11_wide x2) rfl (Nat.le_of_ble_eq_true rfl) (Nat.le_of_ble_eq_true rfl) (Nat.le_of_ble_eq_true rfl) pu_J dX11_stretches_54 (fun r2 σ1 => ?_)
  refine g_aload_n 0 0 dX11_stretches_57 rfl rfl ?_
  refine g_getR fdX11_44 dX11_stretches_58 ?_
  refine g_getI fdX11_266 dX11_stretches_61 ?_
  refine g_i2l dX11_stretches_64 ?_
  refine g_lcmp_ge 73 dX11_stretches_65 dX11_stretches_66 (by decide) ?_ ?_
  · refine g_iconst (v := 0) dX11_stretches_73 (by decide) ?_
    refine G.sub [0, 1] rfl ?_
    exact gX11_stretches_p74 _ _ _ _ _
  · refine g_iconst (v := 1) dX11_stretches_69 (by decide) ?_
    refine g_goto 74 dX11_stretches_70 (by decide) ?_
    refine G.sub [0, 1] rfl ?_
    exact gX11_stretches_p74 _ _ _ _ _
def V.Chk_stretches_p98  (σ : HS) (x0 : Nat) : Option ((Nat ⊕ Unit) × HS) :=
  ck (tg σ x0 = 12) <| clT (Chk_needMemory σ x0 ) fun _ σ1 =>
  ck (tg σ1 x0 = 12) <| clT (Chk_three σ1 x0 ) fun _ σ2 =>
  some (.inr (), σ2)
theorem V.gX11_stretches_p98 {X : CX}  (σ : HS) (x0 : Nat) : G X RX11 "stretches" cX11_stretches 7 none 11 193 (enX enV (cxz X)) 98 [(0, av x0)] [] σ (Chk_stretches_p98 σ x0) := by
  unfold Chk_stretches_p98
  refine g_aload_n 0 0 dX11_stretches_98 rfl rfl ?_
  refine g_callVT (fc := fun sς => Chk_needMemory sς x0 ) (ci := 11) (as := []) rfl rfl rfl q1989 qs111 q1987 mdX11_248 (ctX11_needMemory x0 ) rfl (Nat.le_of_ble_eq_true rfl) (Nat.le_of_ble_eq_true rfl) (Nat.le_of_ble_eq_true rfl) pu_V (by decide) dX11_stretches_99 (fun _ σ1 => ?_)
  refine g_aload_n 0 0 dX11_stretches_102 rfl rfl ?_
  refine g_callVT (fc := fun sς => Chk_three sς x0 ) (ci := 11) (as := []) rfl rfl rfl q2017 qs115 q2015 mdX11_269 (ctX11_three x0 ) rfl (Nat.le_of_ble_eq_true rfl) (Nat.le_of_ble_eq_true rfl) (Nat.le_of_ble_eq_true rfl) pu_V (by decide) dX11_stretches_103 (fun _ σ2 => ?_)
  refine g_goto 280 dX11_stretches_106 (by decide) ?_
  exact g_return rfl dX11_stretches_280
def V.Chk_stretches_p163  (σ : HS) (x0 : Nat) (s0 : Int32) (s1 : Nat) : Option ((Nat ⊕ Unit) × HS) :=
  ck (tg σ s1 = 12) <| clT (Chk_need σ s1 s0 (6 : Int32)) fun _ σ1 =>
  ck (tg σ1 x0 = 12) <| clT (Chk_three σ1 x0 ) fun _ σ2 =>
  some (.inr (), σ2)
theorem V.gX11_stretches_p163 {X : CX}  (σ : HS) (x0 : Nat) (s0 : Int32) (s1 : Nat) : G X RX11 "stretches" cX11_stretches 7 none 11 193 (enX enV (cxz X)) 163 [(0, av x0)] [iv s0, av s1] σ (Chk_stretches_p163 σ x0 s0 s1) := by
  unfold Chk_stretches_p163
  refine g_bipush (v := 6) dX11_stretches_163 (by decide) ?_
  refine g_callVT (fc := fun sς => Chk_need sς s1 s0 (6 : Int32)) (ci := 11) (as := [iv s0, iv (6 : Int32)]) rfl rfl rfl q1746 qs73 q1744 mdX11_118 (ctX11_need s1 s0 (6 : Int32)) rfl (Nat.le_of_ble_eq_true rfl) (Nat.le_of_ble_eq_true rfl) (Nat.le_of_ble_eq_true rfl) pu_V (by decide) dX11_stretches_165 (fun _ σ1 => ?_)
  refine g_aload_n 0 0 dX11_stretches_168 rfl rfl ?_
  refine g_callVT (fc := fun sς => Chk_three sς x0 ) (ci := 11) (as := []) rfl rfl rfl q2017 qs115 q2015 mdX11_269 (ctX11_three x0 ) rfl (Nat.le_of_ble_eq_true rfl) (Nat.le_of_ble_eq_true rfl) (Nat.le_of_ble_eq_true rfl) pu_V (by decide) dX11_stretches_169 (fun _ σ2 => ?_)
  refine g_goto 280 dX11_stretches_172 (by decide) ?_
  exact g_return rfl dX11_stretches_280
def V.Chk_stretches_p134  (σ : HS) (x0 : Nat) (x2 : Int32) (x3 : Int32) (s0 : Nat) (s1 : Nat) : Option ((Nat ⊕ Unit) × HS) :=
  ck (tg σ s1 = 12) <| clT (Chk_named σ s1 s0 x2) fun r2 σ1 =>
  ck (tg σ1 x0 = 12) <|
  ck (tg σ1 (gR σ1 x0 1) = 11) <|
  ck (tg σ1 x0 = 12) <| clT (Chk_named σ1 x0 (gR σ1 (gR σ1 x0 1) 2) x3) fun r4 σ3 =>
  if r2 = r4 then (
    Chk_stretches_p163 σ3 x0 (1 : Int32) x0)
  else (
    Chk_stretches_p163 σ3 x0 (0 : Int32) x0)
theorem V.gX11_stretches_p134 {X : CX}  (σ : HS) (x0 : Nat) (x2 : Int32) (x3 : Int32) (s0 : Nat) (s1 : Nat) : G X RX11 "stretches" cX11_stretches 7 none 11 193 (enX enV (cxz X)) 134 [(0, av x0), (2, iv x2), (3, iv x3)] [av s0, av s1] σ (Chk_stretches_p134 σ x0 x2 x3 s0 s1) := by
  unfold Chk_stretches_p134
  refine g_iload_n 2 1 dX11_stretches_134 rfl rfl ?_
  refine g_callVT (fc := fun sς => Chk_named sς s1 s0 x2) (ci := 11) (as := [av s0, iv x2]) rfl rfl rfl q1945 qs100 q1943 mdX11_214 (ctX11_named s1 s0 x2) rfl (Nat.le_of_ble_eq_true rfl) (Nat.le_of_ble_eq_true rfl) (Nat.le_of_ble_eq_true rfl) pu_I (by decide) dX11_stretches_135 (fun r2 σ1 => ?_)
  refine g_istore dX11_stretches_138 (by decide) rfl ?_
  refine g_aload_n 0 1 dX11_stretches_140 rfl rfl ?_
  refine g_iload 0 dX11_stretches_141 rfl ?_
  refine g_aload_n 0 1 dX11_stretches_143 rfl rfl ?_
  refine g_aload_n 0 1 dX11_stretches_144 rfl rfl ?_
  refine g_getR fdX11_44 dX11_stretches_145 ?_
  refine g_getR fdX11_224 dX11_stretches_148 ?_
  refine g_iload_n 3 3 dX11_stretches_151 rfl rfl ?_
  refine g_callVT (fc := fun sς => Chk_named sς x0 (gR σ1 (gR σ1 x0 1) 2) x3) (ci := 11) (as := [av (gR σ1 (gR σ1 x0 1) 2), iv x3]) rfl rfl rfl q1945 qs100 q1943 mdX11_214 (ctX11_named x0 (gR σ1 (gR σ1 x0 1) 2) x3) rfl (Nat.le_of_ble_eq_true rfl) (Nat.le_of_ble_eq_true rfl) (Nat.le_of_ble_eq_true rfl) pu_I (by decide) dX11_stretches_152 (fun r4 σ3 => ?_)
  refine g_icmp_ne 162 dX11_stretches_155 (by decide) ?_ ?_
  · refine g_iconst (v := 0) dX11_stretches_162 (by decide) ?_
    refine G.sub [1] rfl ?_
    exact gX11_stretches_p163 _ _ _ _
  · refine g_iconst (v := 1) dX11_stretches_158 (by decide) ?_
    refine g_goto 163 dX11_stretches_159 (by decide) ?_
    refine G.sub [1] rfl ?_
    exact gX11_stretches_p163 _ _ _ _
def V.Chk_stretches_p109  (σ : HS) (x0 : Nat) (x1 : Int32) (x2 : Int32) (x3 : Int32) : Option ((Nat ⊕ Unit) × HS) :=
  if x1 = (268 : Int32) then (
    ck (tg σ x0 = 12) <|
    ck (tg σ (gR σ x0 1) = 11) <|
    Chk_stretches_p134 σ x0 x2 x3 (gR σ (gR σ x0 1) 5) x0)
  else (
    ck (tg σ x0 = 12) <|
    ck (tg σ (gR σ x0 1) = 11) <|
    Chk_stretches_p134 σ x0 x2 x3 (gR σ (gR σ x0 1) 2) x0)
theorem V.gX11_stretches_p109 {X : CX}  (σ : HS) (x0 : Nat) (x1 : Int32) (x2 : Int32) (x3 : Int32) : G X RX11 "stretches" cX11_stretches 7 none 11 193 (enX enV (cxz X)) 109 [(0, av x0), (1, iv x1), (2, iv x2), (3, iv x3)] [] σ (Chk_stretches_p109 σ x0 x1 x2 x3) := by
  unfold Chk_stretches_p109
  refine g_aload_n 0 0 dX11_stretches_109 rfl rfl ?_
  refine g_iload_n 1 1 dX11_stretches_110 rfl rfl ?_
  refine g_sipush (v := 268) dX11_stretches_111 (by decide) ?_
  refine g_icmp_ne 127 dX11_stretches_114 (by decide) ?_ ?_
  · refine g_aload_n 0 0 dX11_stretches_127 rfl rfl ?_
    refine g_getR fdX11_44 dX11_stretches_128 ?_
    refine g_getR fdX11_224 dX11_stretches_131 ?_
    refine G.sub [0, 2, 3] rfl ?_
    exact gX11_stretches_p134 _ _ _ _ _ _
  · refine g_aload_n 0 0 dX11_stretches_117 rfl rfl ?_
    refine g_getR fdX11_44 dX11_stretches_118 ?_
    refine g_getR fdX11_272 dX11_stretches_121 ?_
    refine g_goto 134 dX11_stretches_124 (by decide) ?_
    refine G.sub [0, 2, 3] rfl ?_
    exact gX11_stretches_p134 _ _ _ _ _ _
def V.Chk_stretches (σ : HS) (x0 : Nat) (x1 : Int32) (x2 : Int32) (x3 : Int32) : Option ((Nat ⊕ Unit) × HS) :=
  swx x1 [
    (264, (
      Chk_stretches_p52 σ x0 x1 x2)),
    (265, (
      Chk_stretches_p52 σ x0 x1 x2)),
    (266, (
      Chk_stretches_p98 σ x0)),
    (267, (
      Chk_stretches_p98 σ x0)),
    (268, (
      Chk_stretches_p109 σ x0 x1 x2 x3)),
    (269, (
      ck (tg σ x0 = 12) <|
      ck (tg σ (gR σ x0 1) = 11) <|
      ck (tg σ x0 = 12) <| clT (Chk_named σ x0 (gR σ (gR σ x0 1) 5) x2) fun r2 σ1 =>
      some (.inr (), σ1))),
    (270, (
      Chk_stretches_p109 σ x0 x1 x2 x3)),
    (271, (
      ck (tg σ x0 = 12) <|
      ck (tg σ (gR σ x0 1) = 11) <|
      ck (tg σ x0 = 12) <| clT (Chk_named σ x0 (gR σ (gR σ x0 1) 2) x2) fun r4 σ3 =>
      ck (tg σ3 x0 = 12) <| clT (Chk_take σ3 x0 (127 : Int32)) fun r6 σ5 =>
      ck (tg σ5 x0 = 12) <| clT (Chk_turn σ5 x0 r4 (127 : Int32)) fun _ σ7 =>
      some (.inr (), σ7))),
    (272, (
      ck (tg σ x0 = 12) <|
      ck (tg σ (gR σ x0 1) = 11) <|
      ck (tg σ x0 = 12) <| clT (Chk_named σ x0 (gR σ (gR σ x0 1) 2) x2) fun r9 σ8 =>
      ck (tg σ8 x0 = 12) <| clT (Chk_give σ8 x0 (127 : Int32)) fun _ σ10 =>
      some (.inr (), σ10)))
    ] (
    ck (tg σ x0 = 12) <|
    ck (tg σ (gR σ x0 1) = 11) <|
    ck (tg σ x0 = 12) <| clT (Chk_named σ x0 (gR σ (gR σ x0 1) 2) x2) fun r12 σ11 =>
    ck (tg σ11 x0 = 12) <| clT (Chk_take σ11 x0 (127 : Int32)) fun r14 σ13 =>
    ck (tg σ13 x0 = 12) <| clT (Chk_take σ13 x0 r12) fun r16 σ15 =>
    ck (tg σ15 x0 = 12) <| clT (Chk_take σ15 x0 (127 : Int32)) fun r18 σ17 =>
    some (.inr (), σ17))
theorem V.ctX11_stretches (x0 : Nat) (x1 : Int32) (x2 : Int32) (x3 : Int32) : Ct yX11_stretches  cX11_stretches 7 none 11 193 eXV [av x0, iv x1, iv x2, iv x3] (fun σ => Chk_stretches σ x0 x1 x2 x3) := by
  refine Ct.of (own := RX11) (nm := "stretches") (desc := "(III)V") rfl (by decide) (Nat.le_of_ble_eq_true rfl) (by decide) (fun X σ => ?_)
  show G X RX11 "stretches" cX11_stretches 7 none 11 193 (enX enV (cxz X)) 0 [(0, av x0), (1, iv x1), (2, iv x2), (3, iv x3)] [] σ (Chk_stretches σ x0 x1 x2 x3)
  unfold Chk_stretches
  refine g_iload_n 1 1 dX11_stretches_0 rfl rfl ?_
  refine g_tsw dX11_stretches_1 (by decide +kernel) ?_
  refine g_case ex0 (t := 52) (by decide +kernel) ?_ (fun hx => ?_)
  · refine G.sub [0, 1, 2] rfl ?_
    exact gX11_stretches_p52 _ _ _ _
  refine g_case hx (t := 52) (by decide +kernel) ?_ (fun hx => ?_)
  · refine G.sub [0, 1, 2] rfl ?_
    exact gX11_stretches_p52 _ _ _ _
  refine g_case hx (t := 98) (by decide +kernel) ?_ (fun hx => ?_)
  · refine G.sub [0] rfl ?_
    exact gX11_stretches_p98 _ _
  refine g_case hx (t := 98) (by decide +kernel) ?_ (fun hx => ?_)
  · refine G.sub [0] rfl ?_
    exact gX11_stretches_p98 _ _
  refine g_case hx (t := 109) (by decide +kernel) ?_ (fun hx => ?_)
  · exact gX11_stretches_p109 _ _ _ _ _
  refine g_case hx (t := 175) (by decide +kernel) ?_ (fun hx => ?_)
  · refine g_aload_n 0 0 dX11_stretches_175 rfl rfl ?_
    refine g_aload_n 0 0 dX11_stretches_176 rfl rfl ?_
    refine g_getR fdX11_44 dX11_stretches_177 ?_
    refine g_getR fdX11_272 dX11_stretches_180 ?_
    refine g_iload_n 2 2 dX11_stretches_183 rfl rfl ?_
    refine g_callVT (fc := fun sς => Chk_named sς x0 (gR σ (gR σ x0 1) 5) x2) (ci := 11) (as := [av (gR σ (gR σ x0 1) 5), iv x2]) rfl rfl rfl q1945 qs100 q1943 mdX11_214 (ctX11_named x0 (gR σ (gR σ x0 1) 5) x2) rfl (Nat.le_of_ble_eq_true rfl) (Nat.le_of_ble_eq_true rfl) (Nat.le_of_ble_eq_true rfl) pu_I (by decide) dX11_stretches_184 (fun r2 σ1 => ?_)
    refine g_pop dX11_stretches_187 rfl ?_
    refine g_goto 280 dX11_stretches_188 (by decide) ?_
    exact g_return rfl dX11_stretches_280
  refine g_case hx (t := 109) (by decide +kernel) ?_ (fun hx => ?_)
  · exact gX11_stretches_p109 _ _ _ _ _
  refine g_case hx (t := 191) (by decide +kernel) ?_ (fun hx => ?_)
  · refine g_aload_n 0 0 dX11_stretches_191 rfl rfl ?_
    refine g_aload_n 0 0 dX11_stretches_192 rfl rfl ?_
    refine g_getR fdX11_44 dX11_stretches_193 ?_
    refine g_getR fdX11_224 dX11_stretches_196 ?_
    refine g_iload_n 2 2 dX11_stretches_199 rfl rfl ?_
    refine g_callVT (fc := fun sς => Chk_named sς x0 (gR σ (gR σ x0 1) 2) x2) (ci := 11) (as := [av (gR σ (gR σ x0 1) 2), iv x2]) rfl rfl rfl q1945 qs100 q1943 mdX11_214 (ctX11_named x0 (gR σ (gR σ x0 1) 2) x2) rfl (Nat.le_of_ble_eq_true rfl) (Nat.le_of_ble_eq_true rfl) (Nat.le_of_ble_eq_true rfl) pu_I (by decide) dX11_stretches_200 (fun r4 σ3 => ?_)
    refine g_istore dX11_stretches_203 (by decide) rfl ?_
    refine g_aload_n 0 1 dX11_stretches_205 rfl rfl ?_
    refine g_bipush (v := 127) dX11_stretches_206 (by decide) ?_
    refine g_callVT (fc := fun sς => Chk_take sς x0 (127 : Int32)) (ci := 11) (as := [iv (127 : Int32)]) rfl rfl rfl q1837 qs80 q1835 mdX11_149 (ctX11_take x0 (127 : Int32)) rfl (Nat.le_of_ble_eq_true rfl) (Nat.le_of_ble_eq_true rfl) (Nat.le_of_ble_eq_true rfl) pu_I (by decide) dX11_stretches_208 (fun r6 σ5 => ?_)
    refine g_pop dX11_stretches_211 rfl ?_
    refine g_aload_n 0 1 dX11_stretches_212 rfl rfl ?_
    refine g_iload 0 dX11_stretches_213 rfl ?_
    refine g_bipush (v := 127) dX11_stretches_215 (by decide) ?_
    refine g_callVT (fc := fun sς => Chk_turn sς x0 r4 (127 : Int32)) (ci := 11) (as := [iv r4, iv (127 : Int32)]) rfl rfl rfl q1969 qs106 q1967 mdX11_161 (ctX11_turn x0 r4 (127 : Int32)) rfl (Nat.le_of_ble_eq_true rfl) (Nat.le_of_ble_eq_true rfl) (Nat.le_of_ble_eq_true rfl) pu_V (by decide) dX11_stretches_217 (fun _ σ7 => ?_)
    refine g_goto 280 dX11_stretches_220 (by decide) ?_
    exact g_return rfl dX11_stretches_280
  refine g_case hx (t := 223) (by decide +kernel) ?_ (fun hx => ?_)
  · refine g_aload_n 0 0 dX11_stretches_223 rfl rfl ?_
    refine g_aload_n 0 0 dX11_stretches_224 rfl rfl ?_
    refine g_getR fdX11_44 dX11_stretches_225 ?_
    refine g_getR fdX11_224 dX11_stretches_228 ?_
    refine g_iload_n 2 2 dX11_stretches_231 rfl rfl ?_
    refine g_callVT (fc := fun sς => Chk_named sς x0 (gR σ (gR σ x0 1) 2) x2) (ci := 11) (as := [av (gR σ (gR σ x0 1) 2), iv x2]) rfl rfl rfl q1945 qs100 q1943 mdX11_214 (ctX11_named x0 (gR σ (gR σ x0 1) 2) x2) rfl (Nat.le_of_ble_eq_true rfl) (Nat.le_of_ble_eq_true rfl) (Nat.le_of_ble_eq_true rfl) pu_I (by decide) dX11_stretches_232 (fun r9 σ8 => ?_)
    refine g_pop dX11_stretches_235 rfl ?_
    refine g_aload_n 0 0 dX11_stretches_236 rfl rfl ?_
    refine g_bipush (v := 127) dX11_stretches_237 (by decide) ?_
    refine g_callVT (fc := fun sς => Chk_give sς x0 (127 : Int32)) (ci := 11) (as := [iv (127 : Int32)]) rfl rfl rfl q1857 qs85 q1855 mdX11_152 (ctX11_give x0 (127 : Int32)) rfl (Nat.le_of_ble_eq_true rfl) (Nat.le_of_ble_eq_true rfl) (Nat.le_of_ble_eq_true rfl) pu_V (by decide) dX11_stretches_239 (fun _ σ10 => ?_)
    refine g_goto 280 dX11_stretches_242 (by decide) ?_
    exact g_return rfl dX11_stretches_280
  refine g_dflt (t := 245) (tswT_d (by decide +kernel) (by decide +kernel) hx) ?_
  refine g_aload_n 0 0 dX11_stretches_245 rfl rfl ?_
  refine g_aload_n 0 0 dX11_stretches_246 rfl rfl ?_
  refine g_getR fdX11_44 dX11_stretches_247 ?_
  refine g_getR fdX11_224 dX11_stretches_250 ?_
  refine g_iload_n 2 2 dX11_stretches_253 rfl rfl ?_
  refine g_callVT (fc := fun sς => Chk_named sς x0 (gR σ (gR σ x0 1) 2) x2) (ci := 11) (as := [av (gR σ (gR σ x0 1) 2), iv x2]) rfl rfl rfl q1945 qs100 q1943 mdX11_214 (ctX11_named x0 (gR σ (gR σ x0 1) 2) x2) rfl (Nat.le_of_ble_eq_true rfl) (Nat.le_of_ble_eq_true rfl) (Nat.le_of_ble_eq_true rfl) pu_I (by decide) dX11_stretches_254 (fun r12 σ11 => ?_)
  refine g_istore dX11_stretches_257 (by decide) rfl ?_
  refine g_aload_n 0 1 dX11_stretches_259 rfl rfl ?_
  refine g_bipush (v := 127) dX11_stretches_260 (by decide) ?_
  refine g_callVT (fc := fun sς => Chk_take sς x0 (127 : Int32)) (ci := 11) (as := [iv (127 : Int32)]) rfl rfl rfl q1837 qs80 q1835 mdX11_149 (ctX11_take x0 (127 : Int32)) rfl (Nat.le_of_ble_eq_true rfl) (Nat.le_of_ble_eq_true rfl) (Nat.le_of_ble_eq_true rfl) pu_I (by decide) dX11_stretches_262 (fun r14 σ13 => ?_)
  refine g_pop dX11_stretches_265 rfl ?_
  refine g_aload_n 0 1 dX11_stretches_266 rfl rfl ?_
  refine g_iload 0 dX11_stretches_267 rfl ?_
  refine g_callVT (fc := fun sς => Chk_take sς x0 r12) (ci := 11) (as := [iv r12]) rfl rfl rfl q1837 qs80 q1835 mdX11_149 (ctX11_take x0 r12) rfl (Nat.le_of_ble_eq_true rfl) (Nat.le_of_ble_eq_true rfl) (Nat.le_of_ble_eq_true rfl) pu_I (by decide) dX11_stretches_269 (fun r16 σ15 => ?_)
  refine g_pop dX11_stretches_272 rfl ?_
  refine g_aload_n 0 1 dX11_stretches_273 rfl rfl ?_
  refine g_bipush (v := 127) dX11_stretches_274 (by decide) ?_
  refine g_callVT (fc := fun sς => Chk_take sς x0 (127 : Int32)) (ci := 11) (as := [iv (127 : Int32)]) rfl rfl rfl q1837 qs80 q1835 mdX11_149 (ctX11_take x0 (127 : Int32)) rfl (Nat.le_of_ble_eq_true rfl) (Nat.le_of_ble_eq_true rfl) (Nat.le_of_ble_eq_true rfl) pu_I (by decide) dX11_stretches_276 (fun r18 σ17 => ?_)
  refine g_pop dX11_stretches_279 rfl ?_
  exact g_return rfl dX11_stretches_280
theorem V.dX11_rest_0 : decode cX11_rest 0 = .ok (.iload_n 1, 1) := by decide +kernel
theorem V.dX11_rest_1 : decode cX11_rest 1 = .ok (.bipush 39, 2) := by decide +kernel
theorem V.dX11_rest_3 : decode cX11_rest 3 = .ok (.if_icmp .le 18, 3) := by decide +kernel
theorem V.dX11_rest_6 : decode cX11_rest 6 = .ok (.iload_n 1, 1) := by decide +kernel
theorem V.dX11_rest_7 : decode cX11_rest 7 = .ok (.bipush 63, 2) := by decide +kernel
theorem V.dX11_rest_9 : decode cX11_rest 9 = .ok (.if_icmp .ge 12, 3) := by decide +kernel
theorem V.dX11_rest_12 : decode cX11_rest 12 = .ok (.aload_n 0, 1) := by decide +kernel
theorem V.dX11_rest_13 : decode cX11_rest 13 = .ok (.iload_n 1, 1) := by decide +kernel
theorem V.dX11_rest_14 : decode cX11_rest 14 = .ok (.iload_n 2, 1) := by decide +kernel
theorem V.dX11_rest_15 : decode cX11_rest 15 = .ok (.invokevirtual 275, 3) := by decide +kernel
theorem V.dX11_rest_18 : decode cX11_rest 18 = .ok (.goto 201, 3) := by decide +kernel
theorem V.dX11_rest_21 : decode cX11_rest 21 = .ok (.iload_n 1, 1) := by decide +kernel
theorem V.dX11_rest_22 : decode cX11_rest 22 = .ok (.bipush 63, 2) := by decide +kernel
theorem V.dX11_rest_24 : decode cX11_rest 24 = .ok (.if_icmp .eq 9, 3) := by decide +kernel
theorem V.dX11_rest_27 : decode cX11_rest 27 = .ok (.iload_n 1, 1) := by decide +kernel
theorem V.dX11_rest_28 : decode cX11_rest 28 = .ok (.bipush 64, 2) := by decide +kernel
theorem V.dX11_rest_30 : decode cX11_rest 30 = .ok (.if_icmp .ne 29, 3) := by decide +kernel
theorem V.dX11_rest_33 : decode cX11_rest 33 = .ok (.aload_n 0, 1) := by decide +kernel
theorem V.dX11_rest_34 : decode cX11_rest 34 = .ok (.invokevirtual 248, 3) := by decide +kernel
theorem V.dX11_rest_37 : decode cX11_rest 37 = .ok (.iload_n 1, 1) := by decide +kernel
theorem V.dX11_rest_38 : decode cX11_rest 38 = .ok (.bipush 64, 2) := by decide +kernel
theorem V.dX11_rest_40 : decode cX11_rest 40 = .ok (.if_icmp .ne 10, 3) := by decide +kernel
theorem V.dX11_rest_43 : decode cX11_rest 43 = .ok (.aload_n 0, 1) := by decide +kernel
theorem V.dX11_rest_44 : decode cX11_rest 44 = .ok (.bipush 127, 2) := by decide +kernel
theorem V.dX11_rest_46 : decode cX11_rest 46 = .ok (.invokevirtual 149, 3) := by decide +kernel
theorem V.dX11_rest_49 : decode cX11_rest 49 = .ok (.pop, 1) := by decide +kernel
theorem V.dX11_rest_50 : decode cX11_rest 50 = .ok (.aload_n 0, 1) := by decide +kernel
theorem V.dX11_rest_51 : decode cX11_rest 51 = .ok (.bipush 127, 2) := by decide +kernel
theorem V.dX11_rest_53 : decode cX11_rest 53 = .ok (.invokevirtual 152, 3) := by decide +kernel
theorem V.dX11_rest_56 : decode cX11_rest 56 = .ok (.goto 163, 3) := by decide +kernel
theorem V.dX11_rest_59 : decode cX11_rest 59 = .ok (.iload_n 1, 1) := by decide +kernel
theorem V.dX11_rest_60 : decode cX11_rest 60 = .ok (.bipush 64, 2) := by decide +kernel
theorem V.dX11_rest_62 : decode cX11_rest 62 = .ok (.if_icmp .le 51, 3) := by decide +kernel
theorem V.dX11_rest_65 : decode cX11_rest 65 = .ok (.iload_n 1, 1) := by decide +kernel
theorem V.dX11_rest_66 : decode cX11_rest 66 = .ok (.bipush 69, 2) := by decide +kernel
theorem V.dX11_rest_68 : decode cX11_rest 68 = .ok (.if_icmp .ge 45, 3) := by decide +kernel
theorem V.dX11_rest_71 : decode cX11_rest 71 = .ok (.aload_n 0, 1) := by decide +kernel
theorem V.dX11_rest_72 : decode cX11_rest 72 = .ok (.iload_n 1, 1) := by decide +kernel
theorem V.dX11_rest_73 : decode cX11_rest 73 = .ok (.bipush 65, 2) := by decide +kernel
theorem V.dX11_rest_75 : decode cX11_rest 75 = .ok (.if_icmp .ne 8, 3) := by decide +kernel
theorem V.dX11_rest_78 : decode cX11_rest 78 = .ok (.bipush 127, 2) := by decide +kernel
theorem V.dX11_rest_80 : decode cX11_rest 80 = .ok (.goto 27, 3) := by decide +kernel
theorem V.dX11_rest_83 : decode cX11_rest 83 = .ok (.iload_n 1, 1) := by decide +kernel
theorem V.dX11_rest_84 : decode cX11_rest 84 = .ok (.bipush 66, 2) := by decide +kernel
theorem V.dX11_rest_86 : decode cX11_rest 86 = .ok (.if_icmp .ne 8, 3) := by decide +kernel
theorem V.dX11_rest_89 : decode cX11_rest 89 = .ok (.bipush 126, 2) := by decide +kernel
theorem V.dX11_rest_91 : decode cX11_rest 91 = .ok (.goto 16, 3) := by decide +kernel
theorem V.dX11_rest_94 : decode cX11_rest 94 = .ok (.iload_n 1, 1) := by decide +kernel
theorem V.dX11_rest_95 : decode cX11_rest 95 = .ok (.bipush 67, 2) := by decide +kernel
theorem V.dX11_rest_97 : decode cX11_rest 97 = .ok (.if_icmp .ne 8, 3) := by decide +kernel
theorem V.dX11_rest_100 : decode cX11_rest 100 = .ok (.bipush 125, 2) := by decide +kernel
theorem V.dX11_rest_102 : decode cX11_rest 102 = .ok (.goto 5, 3) := by decide +kernel
theorem V.dX11_rest_105 : decode cX11_rest 105 = .ok (.bipush 124, 2) := by decide +kernel
theorem V.dX11_rest_107 : decode cX11_rest 107 = .ok (.invokevirtual 152, 3) := by decide +kernel
theorem V.dX11_rest_110 : decode cX11_rest 110 = .ok (.goto 109, 3) := by decide +kernel
theorem V.dX11_rest_113 : decode cX11_rest 113 = .ok (.iload_n 1, 1) := by decide +kernel
theorem V.dX11_rest_114 : decode cX11_rest 114 = .ok (.bipush 68, 2) := by decide +kernel
theorem V.dX11_rest_116 : decode cX11_rest 116 = .ok (.if_icmp .le 18, 3) := by decide +kernel
theorem V.dX11_rest_119 : decode cX11_rest 119 = .ok (.iload_n 1, 1) := by decide +kernel
theorem V.dX11_rest_120 : decode cX11_rest 120 = .ok (.sipush 197, 3) := by decide +kernel
theorem V.dX11_rest_123 : decode cX11_rest 123 = .ok (.if_icmp .ge 11, 3) := by decide +kernel
theorem V.dX11_rest_126 : decode cX11_rest 126 = .ok (.aload_n 0, 1) := by decide +kernel
theorem V.dX11_rest_127 : decode cX11_rest 127 = .ok (.iload_n 1, 1) := by decide +kernel
theorem V.dX11_rest_128 : decode cX11_rest 128 = .ok (.invokevirtual 278, 3) := by decide +kernel
theorem V.dX11_rest_131 : decode cX11_rest 131 = .ok (.goto 88, 3) := by decide +kernel
theorem V.dX11_rest_134 : decode cX11_rest 134 = .ok (.iload_n 1, 1) := by decide +kernel
theorem V.dX11_rest_135 : decode cX11_rest 135 = .ok (.sipush 207, 3) := by decide +kernel
theorem V.dX11_rest_138 : decode cX11_rest 138 = .ok (.if_icmp .le 19, 3) := by decide +kernel
theorem V.dX11_rest_141 : decode cX11_rest 141 = .ok (.iload_n 1, 1) := by decide +kernel
theorem V.dX11_rest_142 : decode cX11_rest 142 = .ok (.sipush 211, 3) := by decide +kernel
theorem V.dX11_rest_145 : decode cX11_rest 145 = .ok (.if_icmp .ge 12, 3) := by decide +kernel
theorem V.dX11_rest_148 : decode cX11_rest 148 = .ok (.aload_n 0, 1) := by decide +kernel
theorem V.dX11_rest_149 : decode cX11_rest 149 = .ok (.iload_n 1, 1) := by decide +kernel
theorem V.dX11_rest_150 : decode cX11_rest 150 = .ok (.iload_n 2, 1) := by decide +kernel
theorem V.dX11_rest_151 : decode cX11_rest 151 = .ok (.invokevirtual 281, 3) := by decide +kernel
theorem V.dX11_rest_154 : decode cX11_rest 154 = .ok (.goto 65, 3) := by decide +kernel
theorem V.dX11_rest_157 : decode cX11_rest 157 = .ok (.iload_n 1, 1) := by decide +kernel
theorem V.dX11_rest_158 : decode cX11_rest 158 = .ok (.sipush 255, 3) := by decide +kernel
theorem V.dX11_rest_161 : decode cX11_rest 161 = .ok (.if_icmp .le 51, 3) := by decide +kernel
theorem V.dX11_rest_164 : decode cX11_rest 164 = .ok (.iload_n 1, 1) := by decide +kernel
theorem V.dX11_rest_165 : decode cX11_rest 165 = .ok (.sipush 264, 3) := by decide +kernel
theorem V.dX11_rest_168 : decode cX11_rest 168 = .ok (.if_icmp .ge 44, 3) := by decide +kernel
theorem V.dX11_rest_171 : decode cX11_rest 171 = .ok (.iload_n 1, 1) := by decide +kernel
theorem V.dX11_rest_172 : decode cX11_rest 172 = .ok (.sipush 256, 3) := by decide +kernel
theorem V.dX11_rest_175 : decode cX11_rest 175 = .ok (.isub, 1) := by decide +kernel
theorem V.dX11_rest_176 : decode cX11_rest 176 = .ok (.istore 4, 2) := by decide +kernel
theorem V.dX11_rest_178 : decode cX11_rest 178 = .ok (.aload_n 0, 1) := by decide +kernel
theorem V.dX11_rest_179 : decode cX11_rest 179 = .ok (.iload 4, 2) := by decide +kernel
theorem V.dX11_rest_181 : decode cX11_rest 181 = .ok (.iconst 2, 1) := by decide +kernel
theorem V.dX11_rest_182 : decode cX11_rest 182 = .ok (.iand, 1) := by decide +kernel
theorem V.dX11_rest_183 : decode cX11_rest 183 = .ok (.ifCond .ne 8, 3) := by decide +kernel
theorem V.dX11_rest_186 : decode cX11_rest 186 = .ok (.bipush 125, 2) := by decide +kernel
theorem V.dX11_rest_188 : decode cX11_rest 188 = .ok (.goto 5, 3) := by decide +kernel
theorem V.dX11_rest_191 : decode cX11_rest 191 = .ok (.bipush 124, 2) := by decide +kernel
theorem V.dX11_rest_193 : decode cX11_rest 193 = .ok (.iload 4, 2) := by decide +kernel
theorem V.dX11_rest_195 : decode cX11_rest 195 = .ok (.iconst 4, 1) := by decide +kernel
theorem V.dX11_rest_196 : decode cX11_rest 196 = .ok (.if_icmp .ge 8, 3) := by decide +kernel
theorem V.dX11_rest_199 : decode cX11_rest 199 = .ok (.bipush 127, 2) := by decide +kernel
theorem V.dX11_rest_201 : decode cX11_rest 201 = .ok (.goto 5, 3) := by decide +kernel
theorem V.dX11_rest_204 : decode cX11_rest 204 = .ok (.bipush 126, 2) := by decide +kernel
theorem V.dX11_rest_206 : decode cX11_rest 206 = .ok (.invokevirtual 161, 3) := by decide +kernel
theorem V.dX11_rest_209 : decode cX11_rest 209 = .ok (.goto 10, 3) := by decide +kernel
theorem V.dX11_rest_212 : decode cX11_rest 212 = .ok (.aload_n 0, 1) := by decide +kernel
theorem V.dX11_rest_213 : decode cX11_rest 213 = .ok (.iload_n 1, 1) := by decide +kernel
theorem V.dX11_rest_214 : decode cX11_rest 214 = .ok (.iload_n 2, 1) := by decide +kernel
theorem V.dX11_rest_215 : decode cX11_rest 215 = .ok (.iload_n 3, 1) := by decide +kernel
theorem V.dX11_rest_216 : decode cX11_rest 216 = .ok (.invokevirtual 284, 3) := by decide +kernel
theorem V.dX11_rest_219 : decode cX11_rest 219 = .ok (.return_, 1) := by decide +kernel
theorem V.mdX11_275 : MD RX11 275 yX11_moves cX11_moves 3 none 2 := ⟨Or.inl q1983, q371, q1986, by decide, by decide, by decide +kernel⟩
theorem V.mdX11_278 : MD RX11 278 yX11_numbers cX11_numbers 3 none 1 := ⟨Or.inl q1997, q371, q2000, by decide, by decide, by decide +kernel⟩
theorem V.mdX11_281 : MD RX11 281 yX11_references cX11_references 4 none 2 := ⟨Or.inl q2007, q371, q2010, by decide, by decide, by decide +kernel⟩
theorem V.mdX11_284 : MD RX11 284 yX11_stretches cX11_stretches 7 none 3 := ⟨Or.inl q2011, q371, q2014, by decide, by decide, by decide +kernel⟩
/-! ModuleEngine$Checker.rest(III)V -/
def V.Chk_rest_p50  (σ : HS) (x0 : Nat) : Option ((Nat ⊕ Unit) × HS) :=
  ck (tg σ x0 = 12) <| clT (Chk_give σ x0 (127 : Int32)) fun _ σ1 =>
  some (.inr (), σ1)
theorem V.gX11_rest_p50 {X : CX}  (σ : HS) (x0 : Nat) : G X RX11 "rest" cX11_rest 5 none 12 219 (enX enV (cxz X)) 50 [(0, av x0)] [] σ (Chk_rest_p50 σ x0) := by
  unfold Chk_rest_p50
  refine g_aload_n 0 0 dX11_rest_50 rfl rfl ?_
  refine g_bipush (v := 127) dX11_rest_51 (by decide) ?_
  refine g_callVT (fc := fun sς => Chk_give sς x0 (127 : Int32)) (ci := 11) (as := [iv (127 : Int32)]) rfl rfl rfl q1857 qs85 q1855 mdX11_152 (ctX11_give x0 (127 : Int32)) rfl (Nat.le_of_ble_eq_true rfl) (Nat.le_of_ble_eq_true rfl) (Nat.le_of_ble_eq_true rfl) pu_V (by decide) dX11_rest_53 (fun _ σ1 => ?_)
  refine g_goto 219 dX11_rest_56 (by decide) ?_
  exact g_return rfl dX11_rest_219
def V.Chk_rest_p33  (σ : HS) (x0 : Nat) (x1 : Int32) : Option ((Nat ⊕ Unit) × HS) :=
  ck (tg σ x0 = 12) <| clT (Chk_needMemory σ x0 ) fun _ σ1 =>
  if x1 = (64 : Int32) then (
    ck (tg σ1 x0 = 12) <| clT (Chk_take σ1 x0 (127 : Int32)) fun r3 σ2 =>
    Chk_rest_p50 σ2 x0)
  else (
    Chk_rest_p50 σ1 x0)
theorem V.gX11_rest_p33 {X : CX}  (σ : HS) (x0 : Nat) (x1 : Int32) : G X RX11 "rest" cX11_rest 5 none 12 219 (enX enV (cxz X)) 33 [(0, av x0), (1, iv x1)] [] σ (Chk_rest_p33 σ x0 x1) := by
  unfold Chk_rest_p33
  refine g_aload_n 0 0 dX11_rest_33 rfl rfl ?_
  refine g_callVT (fc := fun sς => Chk_needMemory sς x0 ) (ci := 11) (as := []) rfl rfl rfl q1989 qs111 q1987 mdX11_248 (ctX11_needMemory x0 ) rfl (Nat.le_of_ble_eq_true rfl) (Nat.le_of_ble_eq_true rfl) (Nat.le_of_ble_eq_true rfl) pu_V (by decide) dX11_rest_34 (fun _ σ1 => ?_)
  refine g_iload_n 1 1 dX11_rest_37 rfl rfl ?_
  refine g_bipush (v := 64) dX11_rest_38 (by decide) ?_
  refine g_icmp_ne 50 dX11_rest_40 (by decide) ?_ ?_
  · refine G.sub [0] rfl ?_
    exact gX11_rest_p50 _ _
  · refine g_aload_n 0 0 dX11_rest_43 rfl rfl ?_
    refine g_bipush (v := 127) dX11_rest_44 (by decide) ?_
    refine g_callVT (fc := fun sς => Chk_take sς x0 (127 : Int32)) (ci := 11) (as := [iv (127 : Int32)]) rfl rfl rfl q1837 qs80 q1835 mdX11_149 (ctX11_take x0 (127 : Int32)) rfl (Nat.le_of_ble_eq_true rfl) (Nat.le_of_ble_eq_true rfl) (Nat.le_of_ble_eq_true rfl) pu_I (by decide) dX11_rest_46 (fun r3 σ2 => ?_)
    refine g_pop dX11_rest_49 rfl ?_
    refine G.sub [0] rfl ?_
    exact gX11_rest_p50 _ _
def V.Chk_rest_p212  (σ : HS) (x0 : Nat) (x1 : Int32) (x2 : Int32) (x3 : Int32) : Option ((Nat ⊕ Unit) × HS) :=
  ck (tg σ x0 = 12) <| clT (Chk_stretches σ x0 x1 x2 x3) fun _ σ1 =>
  some (.inr (), σ1)
theorem V.gX11_rest_p212 {X : CX}  (σ : HS) (x0 : Nat) (x1 : Int32) (x2 : Int32) (x3 : Int32) : G X RX11 "rest" cX11_rest 5 none 12 219 (enX enV (cxz X)) 212 [(0, av x0), (1, iv x1), (2, iv x2), (3, iv x3)] [] σ (Chk_rest_p212 σ x0 x1 x2 x3) := by
  unfold Chk_rest_p212
  refine g_aload_n 0 0 dX11_rest_212 rfl rfl ?_
  refine g_iload_n 1 1 dX11_rest_213 rfl rfl ?_
  refine g_iload_n 2 2 dX11_rest_214 rfl rfl ?_
  refine g_iload_n 3 3 dX11_rest_215 rfl rfl ?_
  refine g_callVT (fc := fun sς => Chk_stretches sς x0 x1 x2 x3) (ci := 11) (as := [iv x1, iv x2, iv x3]) rfl rfl rfl q2013 qs114 q2011 mdX11_284 (ctX11_stretches x0 x1 x2 x3) rfl (Nat.le_of_ble_eq_true rfl) (Nat.le_of_ble_eq_true rfl) (Nat.le_of_ble_eq_true rfl) pu_V (by decide) dX11_rest_216 (fun _ σ1 => ?_)
  exact g_return rfl dX11_rest_219
def V.Chk_rest_p206  (σ : HS) (s0 : Int32) (s1 : Int32) (s2 : Nat) : Option ((Nat ⊕ Unit) × HS) :=
  ck (tg σ s2 = 12) <| clT (Chk_turn σ s2 s1 s0) fun _ σ1 =>
  some (.inr (), σ1)
theorem V.gX11_rest_p206 {X : CX}  (σ : HS) (s0 : Int32) (s1 : Int32) (s2 : Nat) : G X RX11 "rest" cX11_rest 5 none 12 219 (enX enV (cxz X)) 206 [] [iv s0, iv s1, av s2] σ (Chk_rest_p206 σ s0 s1 s2) := by
  unfold Chk_rest_p206
  refine g_callVT (fc := fun sς => Chk_turn sς s2 s1 s0) (ci := 11) (as := [iv s1, iv s0]) rfl rfl rfl q1969 qs106 q1967 mdX11_161 (ctX11_turn s2 s1 s0) rfl (Nat.le_of_ble_eq_true rfl) (Nat.le_of_ble_eq_true rfl) (Nat.le_of_ble_eq_true rfl) pu_V (by decide) dX11_rest_206 (fun _ σ1 => ?_)
  refine g_goto 219 dX11_rest_209 (by decide) ?_
  exact g_return rfl dX11_rest_219
def V.Chk_rest_p193  (σ : HS) (x4 : Int32) (s0 : Int32) (s1 : Nat) : Option ((Nat ⊕ Unit) × HS) :=
  if (4 : Int32) ≤ x4 then (
    Chk_rest_p206 σ (126 : Int32) s0 s1)
  else (
    Chk_rest_p206 σ (127 : Int32) s0 s1)
theorem V.gX11_rest_p193 {X : CX}  (σ : HS) (x4 : Int32) (s0 : Int32) (s1 : Nat) : G X RX11 "rest" cX11_rest 5 none 12 219 (enX enV (cxz X)) 193 [(4, iv x4)] [iv s0, av s1] σ (Chk_rest_p193 σ x4 s0 s1) := by
  unfold Chk_rest_p193
  refine g_iload 0 dX11_rest_193 rfl ?_
  refine g_iconst (v := 4) dX11_rest_195 (by decide) ?_
  refine g_icmp_ge 204 dX11_rest_196 (by decide) ?_ ?_
  · refine g_bipush (v := 126) dX11_rest_204 (by decide) ?_
    refine G.sub [] rfl ?_
    exact gX11_rest_p206 _ _ _ _
  · refine g_bipush (v := 127) dX11_rest_199 (by decide) ?_
    refine g_goto 206 dX11_rest_201 (by decide) ?_
    refine G.sub [] rfl ?_
    exact gX11_rest_p206 _ _ _ _
def V.Chk_rest_p157  (σ : HS) (x0 : Nat) (x1 : Int32) (x2 : Int32) (x3 : Int32) : Option ((Nat ⊕ Unit) × HS) :=
  if x1 ≤ (255 : Int32) then (
    Chk_rest_p212 σ x0 x1 x2 x3)
  else (
    if (264 : Int32) ≤ x1 then (
      Chk_rest_p212 σ x0 x1 x2 x3)
    else (
      bn (x1 - (256 : Int32)) fun y1 =>
      if (y1 &&& (2 : Int32)) = 0 then (
        Chk_rest_p193 σ y1 (125 : Int32) x0)
      else (
        Chk_rest_p193 σ y1 (124 : Int32) x0)))
theorem V.gX11_rest_p157 {X : CX}  (σ : HS) (x0 : Nat) (x1 : Int32) (x2 : Int32) (x3 : Int32) : G X RX11 "rest" cX11_rest 5 none 12 219 (enX enV (cxz X)) 157 [(0, av x0), (1, iv x1), (2, iv x2), (3, iv x3)] [] σ (Chk_rest_p157 σ x0 x1 x2 x3) := by
  unfold Chk_rest_p157
  refine g_iload_n 1 1 dX11_rest_157 rfl rfl ?_
  refine g_sipush (v := 255) dX11_rest_158 (by decide) ?_
  refine g_icmp_le 212 dX11_rest_161 (by decide) ?_ ?_
  · exact gX11_rest_p212 _ _ _ _ _
  · refine g_iload_n 1 1 dX11_rest_164 rfl rfl ?_
    refine g_sipush (v := 264) dX11_rest_165 (by decide) ?_
    refine g_icmp_ge 212 dX11_rest_168 (by decide) ?_ ?_
    · exact gX11_rest_p212 _ _ _ _ _
    · refine g_iload_n 1 1 dX11_rest_171 rfl rfl ?_
      refine g_sipush (v := 256) dX11_rest_172 (by decide) ?_
      refine g_isub dX11_rest_175 ?_
      refine g_nmI (fun y1 => ?_)
      refine g_istore dX11_rest_176 (by decide) rfl ?_
      refine g_aload_n 0 1 dX11_rest_178 rfl rfl ?_
      refine g_iload 0 dX11_rest_179 rfl ?_
      refine g_iconst (v := 2) dX11_rest_181 (by decide) ?_
      refine g_iand dX11_rest_182 ?_
      refine g_if_ne 191 dX11_rest_183 (by decide) ?_ ?_
      · refine g_bipush (v := 124) dX11_rest_191 (by decide) ?_
        refine G.sub [0] rfl ?_
        exact gX11_rest_p193 _ _ _ _
      · refine g_bipush (v := 125) dX11_rest_186 (by decide) ?_
        refine g_goto 193 dX11_rest_188 (by decide) ?_
        refine G.sub [0] rfl ?_
        exact gX11_rest_p193 _ _ _ _
def V.Chk_rest_p134  (σ : HS) (x0 : Nat) (x1 : Int32) (x2 : Int32) (x3 : Int32) : Option ((Nat ⊕ Unit) × HS) :=
  if x1 ≤ (207 : Int32) then (
    Chk_rest_p157 σ x0 x1 x2 x3)
  else (
    if (211 : Int32) ≤ x1 then (
      Chk_rest_p157 σ x0 x1 x2 x3)
    else (
      ck (tg σ x0 = 12) <| clT (Chk_references σ x0 x1 x2) fun _ σ1 =>
      some (.inr (), σ1)))
theorem V.gX11_rest_p134 {X : CX}  (σ : HS) (x0 : Nat) (x1 : Int32) (x2 : Int32) (x3 : Int32) : G X RX11 "rest" cX11_rest 5 none 12 219 (enX enV (cxz X)) 134 [(0, av x0), (1, iv x1), (2, iv x2), (3, iv x3)] [] σ (Chk_rest_p134 σ x0 x1 x2 x3) := by
  unfold Chk_rest_p134
  refine g_iload_n 1 1 dX11_rest_134 rfl rfl ?_
  refine g_sipush (v := 207) dX11_rest_135 (by decide) ?_
  refine g_icmp_le 157 dX11_rest_138 (by decide) ?_ ?_
  · exact gX11_rest_p157 _ _ _ _ _
  · refine g_iload_n 1 1 dX11_rest_141 rfl rfl ?_
    refine g_sipush (v := 211) dX11_rest_142 (by decide) ?_
    refine g_icmp_ge 157 dX11_rest_145 (by decide) ?_ ?_
    · exact gX11_rest_p157 _ _ _ _ _
    · refine g_aload_n 0 0 dX11_rest_148 rfl rfl ?_
      refine g_iload_n 1 1 dX11_rest_149 rfl rfl ?_
      refine g_iload_n 2 2 dX11_rest_150 rfl rfl ?_
      refine g_callVT (fc := fun sς => Chk_references sς x0 x1 x2) (ci := 11) (as := [iv x1, iv x2]) rfl rfl rfl q2009 qs113 q2007 mdX11_281 (ctX11_references x0 x1 x2) rfl (Nat.le_of_ble_eq_true rfl) (Nat.le_of_ble_eq_true rfl) (Nat.le_of_ble_eq_true rfl) pu_V (by decide) dX11_rest_151 (fun _ σ1 => ?_)
      refine g_goto 219 dX11_rest_154 (by decide) ?_
      exact g_return rfl dX11_rest_219
def V.Chk_rest_p113  (σ : HS) (x0 : Nat) (x1 : Int32) (x2 : Int32) (x3 : Int32) : Option ((Nat ⊕ Unit) × HS) :=
  if x1 ≤ (68 : Int32) then (
    Chk_rest_p134 σ x0 x1 x2 x3)
  else (
    if (197 : Int32) ≤ x1 then (
      Chk_rest_p134 σ x0 x1 x2 x3)
    else (
      ck (tg σ x0 = 12) <| clT (Chk_numbers σ x0 x1) fun _ σ1 =>
      some (.inr (), σ1)))
theorem V.gX11_rest_p113 {X : CX}  (σ : HS) (x0 : Nat) (x1 : Int32) (x2 : Int32) (x3 : Int32) : G X RX11 "rest" cX11_rest 5 none 12 219 (enX enV (cxz X)) 113 [(0, av x0), (1, iv x1), (2, iv x2), (3, iv x3)] [] σ (Chk_rest_p113 σ x0 x1 x2 x3) := by
  unfold Chk_rest_p113
  refine g_iload_n 1 1 dX11_rest_113 rfl rfl ?_
  refine g_bipush (v := 68) dX11_rest_114 (by decide) ?_
  refine g_icmp_le 134 dX11_rest_116 (by decide) ?_ ?_
  · exact gX11_rest_p134 _ _ _ _ _
  · refine g_iload_n 1 1 dX11_rest_119 rfl rfl ?_
    refine g_sipush (v := 197) dX11_rest_120 (by decide) ?_
    refine g_icmp_ge 134 dX11_rest_123 (by decide) ?_ ?_
    · exact gX11_rest_p134 _ _ _ _ _
    · refine g_aload_n 0 0 dX11_rest_126 rfl rfl ?_
      refine g_iload_n 1 1 dX11_rest_127 rfl rfl ?_
      refine g_callVT (fc := fun sς => Chk_numbers sς x0 x1) (ci := 11) (as := [iv x1]) rfl rfl rfl q1999 qs112 q1997 mdX11_278 (ctX11_numbers x0 x1) rfl (Nat.le_of_ble_eq_true rfl) (Nat.le_of_ble_eq_true rfl) (Nat.le_of_ble_eq_true rfl) pu_V (by decide) dX11_rest_128 (fun _ σ1 => ?_)
      refine g_goto 219 dX11_rest_131 (by decide) ?_
      exact g_return rfl dX11_rest_219
def V.Chk_rest_p107  (σ : HS) (s0 : Int32) (s1 : Nat) : Option ((Nat ⊕ Unit) × HS) :=
  ck (tg σ s1 = 12) <| clT (Chk_give σ s1 s0) fun _ σ1 =>
  some (.inr (), σ1)
theorem V.gX11_rest_p107 {X : CX}  (σ : HS) (s0 : Int32) (s1 : Nat) : G X RX11 "rest" cX11_rest 5 none 12 219 (enX enV (cxz X)) 107 [] [iv s0, av s1] σ (Chk_rest_p107 σ s0 s1) := by
  unfold Chk_rest_p107
  refine g_callVT (fc := fun sς => Chk_give sς s1 s0) (ci := 11) (as := [iv s0]) rfl rfl rfl q1857 qs85 q1855 mdX11_152 (ctX11_give s1 s0) rfl (Nat.le_of_ble_eq_true rfl) (Nat.le_of_ble_eq_true rfl) (Nat.le_of_ble_eq_true rfl) pu_V (by decide) dX11_rest_107 (fun _ σ1 => ?_)
  refine g_goto 219 dX11_rest_110 (by decide) ?_
  exact g_return rfl dX11_rest_219
def V.Chk_rest_p21  (σ : HS) (x0 : Nat) (x1 : Int32) (x2 : Int32) (x3 : Int32) : Option ((Nat ⊕ Unit) × HS) :=
  if x1 = (63 : Int32) then (
    Chk_rest_p33 σ x0 x1)
  else (
    if x1 = (64 : Int32) then (
      Chk_rest_p33 σ x0 x1)
    else (
      if x1 ≤ (64 : Int32) then (
        Chk_rest_p113 σ x0 x1 x2 x3)
      else (
        if (69 : Int32) ≤ x1 then (
          Chk_rest_p113 σ x0 x1 x2 x3)
        else (
          if x1 = (65 : Int32) then (
            Chk_rest_p107 σ (127 : Int32) x0)
          else (
            if x1 = (66 : Int32) then (
              Chk_rest_p107 σ (126 : Int32) x0)
            else (
              if x1 = (67 : Int32) then (
                Chk_rest_p107 σ (125 : Int32) x0)
              else (
                Chk_rest_p107 σ (124 : Int32) x0)))))))
theorem V.gX11_rest_p21 {X : CX}  (σ : HS) (x0 : Nat) (x1 : Int32) (x2 : Int32) (x3 : Int32) : G X RX11 "rest" cX11_rest 5 none 12 219 (enX enV (cxz X)) 21 [(0, av x0), (1, iv x1), (2, iv x2), (3, iv x3)] [] σ (Chk_rest_p21 σ x0 x1 x2 x3) := by
  unfold Chk_rest_p21
  refine g_iload_n 1 1 dX11_rest_21 rfl rfl ?_
  refine g_bipush (v := 63) dX11_rest_22 (by decide) ?_
  refine g_icmp_eq 33 dX11_rest_24 (by decide) ?_ ?_
  · refine G.sub [0, 1] rfl ?_
    exact gX11_rest_p33 _ _ _
  · refine g_iload_n 1 1 dX11_rest_27 rfl rfl ?_
    refine g_bipush (v := 64) dX11_rest_28 (by decide) ?_
    refine g_icmp_ne 59 dX11_rest_30 (by decide) ?_ ?_
    · refine g_iload_n 1 1 dX11_rest_59 rfl rfl ?_
      refine g_bipush (v := 64) dX11_rest_60 (by decide) ?_
      refine g_icmp_le 113 dX11_rest_62 (by decide) ?_ ?_
      · exact gX11_rest_p113 _ _ _ _ _
      · refine g_iload_n 1 1 dX11_rest_65 rfl rfl ?_
        refine g_bipush (v := 69) dX11_rest_66 (by decide) ?_
        refine g_icmp_ge 113 dX11_rest_68 (by decide) ?_ ?_
        · exact gX11_rest_p113 _ _ _ _ _
        · refine g_aload_n 0 0 dX11_rest_71 rfl rfl ?_
          refine g_iload_n 1 1 dX11_rest_72 rfl rfl ?_
          refine g_bipush (v := 65) dX11_rest_73 (by decide) ?_
          refine g_icmp_ne 83 dX11_rest_75 (by decide) ?_ ?_
          · refine g_iload_n 1 1 dX11_rest_83 rfl rfl ?_
            refine g_bipush (v := 66) dX11_rest_84 (by decide) ?_
            refine g_icmp_ne 94 dX11_rest_86 (by decide) ?_ ?_
            · refine g_iload_n 1 1 dX11_rest_94 rfl rfl ?_
              refine g_bipush (v := 67) dX11_rest_95 (by decide) ?_
              refine g_icmp_ne 105 dX11_rest_97 (by decide) ?_ ?_
              · refine g_bipush (v := 124) dX11_rest_105 (by decide) ?_
                refine G.sub [] rfl ?_
                exact gX11_rest_p107 _ _ _
              · refine g_bipush (v := 125) dX11_rest_100 (by decide) ?_
                refine g_goto 107 dX11_rest_102 (by decide) ?_
                refine G.sub [] rfl ?_
                exact gX11_rest_p107 _ _ _
            · refine g_bipush (v := 126) dX11_rest_89 (by decide) ?_
              refine g_goto 107 dX11_rest_91 (by decide) ?_
              refine G.sub [] rfl ?_
              exact gX11_rest_p107 _ _ _
          · refine g_bipush (v := 127) dX11_rest_78 (by decide) ?_
            refine g_goto 107 dX11_rest_80 (by decide) ?_
            refine G.sub [] rfl ?_
            exact gX11_rest_p107 _ _ _
    · refine G.sub [0, 1] rfl ?_
      exact gX11_rest_p33 _ _ _
def V.Chk_rest (σ : HS) (x0 : Nat) (x1 : Int32) (x2 : Int32) (x3 : Int32) : Option ((Nat ⊕ Unit) × HS) :=
  if x1 ≤ (39 : Int32) then (
    Chk_rest_p21 σ x0 x1 x2 x3)
  else (
    if (63 : Int32) ≤ x1 then (
      Chk_rest_p21 σ x0 x1 x2 x3)
    else (
      ck (tg σ x0 = 12) <| clT (Chk_moves σ x0 x1 x2) fun _ σ1 =>
      some (.inr (), σ1)))
theorem V.ctX11_rest (x0 : Nat) (x1 : Int32) (x2 : Int32) (x3 : Int32) : Ct yX11_rest  cX11_rest 5 none 12 219 eXV [av x0, iv x1, iv x2, iv x3] (fun σ => Chk_rest σ x0 x1 x2 x3) := by
  refine Ct.of (own := RX11) (nm := "rest") (desc := "(III)V") rfl (by decide) (Nat.le_of_ble_eq_true rfl) (by decide) (fun X σ => ?_)
  show G X RX11 "rest" cX11_rest 5 none 12 219 (enX enV (cxz X)) 0 [(0, av x0), (1, iv x1), (2, iv x2), (3, iv x3)] [] σ (Chk_rest σ x0 x1 x2 x3)
  unfold Chk_rest
  refine g_iload_n 1 1 dX11_rest_0 rfl rfl ?_
  refine g_bipush (v := 39) dX11_rest_1 (by decide) ?_
  refine g_icmp_le 21 dX11_rest_3 (by decide) ?_ ?_
  · exact gX11_rest_p21 _ _ _ _ _
  · refine g_iload_n 1 1 dX11_rest_6 rfl rfl ?_
    refine g_bipush (v := 63) dX11_rest_7 (by decide) ?_
    refine g_icmp_ge 21 dX11_rest_9 (by decide) ?_ ?_
    · exact gX11_rest_p21 _ _ _ _ _
    · refine g_aload_n 0 0 dX11_rest_12 rfl rfl ?_
      refine g_iload_n 1 1 dX11_rest_13 rfl rfl ?_
      refine g_iload_n 2 2 dX11_rest_14 rfl rfl ?_
      refine g_callVT (fc := fun sς => Chk_moves sς x0 x1 x2) (ci := 11) (as := [iv x1, iv x2]) rfl rfl rfl q1985 qs110 q1983 mdX11_275 (ctX11_moves x0 x1 x2) rfl (Nat.le_of_ble_eq_true rfl) (Nat.le_of_ble_eq_true rfl) (Nat.le_of_ble_eq_true rfl) pu_V (by decide) dX11_rest_15 (fun _ σ1 => ?_)
      refine g_goto 219 dX11_rest_18 (by decide) ?_
      exact g_return rfl dX11_rest_219
theorem V.dX11_check_0 : decode cX11_check 0 = .ok (.aload_n 0, 1) := by decide +kernel
theorem V.dX11_check_1 : decode cX11_check 1 = .ok (.iload_n 1, 1) := by decide +kernel
theorem V.dX11_check_2 : decode cX11_check 2 = .ok (.invokestatic 291, 3) := by decide +kernel
theorem V.dX11_check_5 : decode cX11_check 5 = .ok (.ifCond .eq 15, 3) := by decide +kernel
theorem V.dX11_check_8 : decode cX11_check 8 = .ok (.iload_n 1, 1) := by decide +kernel
theorem V.dX11_check_9 : decode cX11_check 9 = .ok (.iload_n 2, 1) := by decide +kernel
theorem V.dX11_check_10 : decode cX11_check 10 = .ok (.invokestatic 294, 3) := by decide +kernel
theorem V.dX11_check_13 : decode cX11_check 13 = .ok (.ifCond .eq 7, 3) := by decide +kernel
theorem V.dX11_check_16 : decode cX11_check 16 = .ok (.iconst 1, 1) := by decide +kernel
theorem V.dX11_check_17 : decode cX11_check 17 = .ok (.goto 4, 3) := by decide +kernel
theorem V.dX11_check_20 : decode cX11_check 20 = .ok (.iconst 0, 1) := by decide +kernel
theorem V.dX11_check_21 : decode cX11_check 21 = .ok (.bipush 13, 2) := by decide +kernel
theorem V.dX11_check_23 : decode cX11_check 23 = .ok (.invokevirtual 118, 3) := by decide +kernel
theorem V.dX11_check_26 : decode cX11_check 26 = .ok (.aload_n 0, 1) := by decide +kernel
theorem V.dX11_check_27 : decode cX11_check 27 = .ok (.iload_n 1, 1) := by decide +kernel
theorem V.dX11_check_28 : decode cX11_check 28 = .ok (.iload_n 2, 1) := by decide +kernel
theorem V.dX11_check_29 : decode cX11_check 29 = .ok (.iload_n 3, 1) := by decide +kernel
theorem V.dX11_check_30 : decode cX11_check 30 = .ok (.invokevirtual 298, 3) := by decide +kernel
theorem V.dX11_check_33 : decode cX11_check 33 = .ok (.ifCond .ne 19, 3) := by decide +kernel
theorem V.dX11_check_36 : decode cX11_check 36 = .ok (.aload_n 0, 1) := by decide +kernel
theorem V.dX11_check_37 : decode cX11_check 37 = .ok (.iload_n 1, 1) := by decide +kernel
theorem V.dX11_check_38 : decode cX11_check 38 = .ok (.iload_n 2, 1) := by decide +kernel
theorem V.dX11_check_39 : decode cX11_check 39 = .ok (.invokevirtual 302, 3) := by decide +kernel
theorem V.dX11_check_42 : decode cX11_check 42 = .ok (.ifCond .ne 10, 3) := by decide +kernel
theorem V.dX11_check_45 : decode cX11_check 45 = .ok (.aload_n 0, 1) := by decide +kernel
theorem V.dX11_check_46 : decode cX11_check 46 = .ok (.iload_n 1, 1) := by decide +kernel
theorem V.dX11_check_47 : decode cX11_check 47 = .ok (.iload_n 2, 1) := by decide +kernel
theorem V.dX11_check_48 : decode cX11_check 48 = .ok (.iload_n 3, 1) := by decide +kernel
theorem V.dX11_check_49 : decode cX11_check 49 = .ok (.invokevirtual 305, 3) := by decide +kernel
theorem V.dX11_check_52 : decode cX11_check 52 = .ok (.return_, 1) := by decide +kernel
theorem V.mdX11_291 : MD RX11 291 yX11_isKnown cX11_isKnown 1 (some .boolean) 1 := ⟨Or.inl q1792, q371, q1794, by decide, by decide, by decide +kernel⟩
theorem V.mdX11_294 : MD RX11 294 yX11_isForm cX11_isForm 2 (some .boolean) 2 := ⟨Or.inl q1795, q371, q1797, by decide, by decide, by decide +kernel⟩
theorem V.mdX11_298 : MD RX11 298 yX11_control cX11_control 6 (some .boolean) 3 := ⟨Or.inl q1804, q371, q1807, by decide, by decide, by decide +kernel⟩
theorem V.mdX11_302 : MD RX11 302 yX11_plain cX11_plain 4 (some .boolean) 2 := ⟨Or.inl q1955, q371, q1958, by decide, by decide, by decide +kernel⟩
theorem V.mdX11_305 : MD RX11 305 yX11_rest cX11_rest 5 none 3 := ⟨Or.inl q1979, q371, q1982, by decide, by decide, by decide +kernel⟩
/-! ModuleEngine$Checker.check(III)V -/
def V.Chk_check_p21  (σ : HS) (x0 : Nat) (x1 : Int32) (x2 : Int32) (x3 : Int32) (s0 : Int32) (s1 : Nat) : Option ((Nat ⊕ Unit) × HS) :=
  ck (tg σ s1 = 12) <| clT (Chk_need σ s1 s0 (13 : Int32)) fun _ σ1 =>
  ck (tg σ1 x0 = 12) <| clT (Chk_control σ1 x0 x1 x2 x3) fun r3 σ2 =>
  if r3 = 0 then (
    ck (tg σ2 x0 = 12) <| clT (Chk_plain σ2 x0 x1 x2) fun r5 σ4 =>
    if r5 = 0 then (
      ck (tg σ4 x0 = 12) <| clT (Chk_rest σ4 x0 x1 x2 x3) fun _ σ6 =>
      some (.inr (), σ6))
    else (
      some (.inr (), σ4)))
  else (
    some (.inr (), σ2))
theorem V.gX11_check_p21 {X : CX}  (σ : HS) (x0 : Nat) (x1 : Int32) (x2 : Int32) (x3 : Int32) (s0 : Int32) (s1 : Nat) : G X RX11 "check" cX11_check 4 none 14 260 (enX enV (cxz X)) 21 [(0, av x0), (1, iv x1), (2, iv x2), (3, iv x3)] [iv s0, av s1] σ (Chk_check_p21 σ x0 x1 x2 x3 s0 s1) := by
  unfold Chk_check_p21
  refine g_bipush (v := 13) dX11_check_21 (by decide) ?_
  refine g_callVT (fc := fun sς => Chk_need sς s1 s0 (13 : Int32)) (ci := 11) (as := [iv s0, iv (13 : Int32)]) rfl rfl rfl q1746 qs73 q1744 mdX11_118 (ctX11_need s1 s0 (13 : Int32)) rfl (Nat.le_of_ble_eq_true rfl) (Nat.le_of_ble_eq_true rfl) (Nat.le_of_ble_eq_true rfl) pu_V (by decide) dX11_check_23 (fun _ σ1 => ?_)
  refine g_aload_n 0 0 dX11_check_26 rfl rfl ?_
  refine g_iload_n 1 1 dX11_check_27 rfl rfl ?_
  refine g_iload_n 2 2 dX11_check_28 rfl rfl ?_
  refine g_iload_n 3 3 dX11_check_29 rfl rfl ?_
  refine g_callVT (fc := fun sς => Chk_control sς x0 x1 x2 x3) (ci := 11) (as := [iv x1, iv x2, iv x3]) rfl rfl rfl q1806 qs76 q1804 mdX11_298 (ctX11_control x0 x1 x2 x3) rfl (Nat.le_of_ble_eq_true rfl) (Nat.le_of_ble_eq_true rfl) (Nat.le_of_ble_eq_true rfl) pu_I (by decide) dX11_check_30 (fun r3 σ2 => ?_)
  refine g_if_ne 52 dX11_check_33 (by decide) ?_ ?_
  · exact g_return rfl dX11_check_52
  · refine g_aload_n 0 0 dX11_check_36 rfl rfl ?_
    refine g_iload_n 1 1 dX11_check_37 rfl rfl ?_
    refine g_iload_n 2 2 dX11_check_38 rfl rfl ?_
    refine g_callVT (fc := fun sς => Chk_plain sς x0 x1 x2) (ci := 11) (as := [iv x1, iv x2]) rfl rfl rfl q1957 qs103 q1955 mdX11_302 (ctX11_plain x0 x1 x2) rfl (Nat.le_of_ble_eq_true rfl) (Nat.le_of_ble_eq_true rfl) (Nat.le_of_ble_eq_true rfl) pu_I (by decide) dX11_check_39 (fun r5 σ4 => ?_)
    refine g_if_ne 52 dX11_check_42 (by decide) ?_ ?_
    · exact g_return rfl dX11_check_52
    · refine g_aload_n 0 0 dX11_check_45 rfl rfl ?_
      refine g_iload_n 1 1 dX11_check_46 rfl rfl ?_
      refine g_iload_n 2 2 dX11_check_47 rfl rfl ?_
      refine g_iload_n 3 3 dX11_check_48 rfl rfl ?_
      refine g_callVT (fc := fun sς => Chk_rest sς x0 x1 x2 x3) (ci := 11) (as := [iv x1, iv x2, iv x3]) rfl rfl rfl q1981 qs109 q1979 mdX11_305 (ctX11_rest x0 x1 x2 x3) rfl (Nat.le_of_ble_eq_true rfl) (Nat.le_of_ble_eq_true rfl) (Nat.le_of_ble_eq_true rfl) pu_V (by decide) dX11_check_49 (fun _ σ6 => ?_)
      exact g_return rfl dX11_check_52
def V.Chk_check_p20  (σ : HS) (x0 : Nat) (x1 : Int32) (x2 : Int32) (x3 : Int32) (s0 : Nat) : Option ((Nat ⊕ Unit) × HS) :=
  Chk_check_p21 σ x0 x1 x2 x3 (0 : Int32) s0
theorem V.gX11_check_p20 {X : CX}  (σ : HS) (x0 : Nat) (x1 : Int32) (x2 : Int32) (x3 : Int32) (s0 : Nat) : G X RX11 "check" cX11_check 4 none 14 260 (enX enV (cxz X)) 20 [(0, av x0), (1, iv x1), (2, iv x2), (3, iv x3)] [av s0] σ (Chk_check_p20 σ x0 x1 x2 x3 s0) := by
  unfold Chk_check_p20
  refine g_iconst (v := 0) dX11_check_20 (by decide) ?_
  exact gX11_check_p21 _ _ _ _ _ _ _
def V.Chk_check (σ : HS) (x0 : Nat) (x1 : Int32) (x2 : Int32) (x3 : Int32) : Option ((Nat ⊕ Unit) × HS) :=
  cl (Chk_isKnown σ x1) fun r2 σ1 =>
  if r2 = 0 then (
    Chk_check_p20 σ1 x0 x1 x2 x3 x0)
  else (
    cl (Chk_isForm σ1 x1 x2) fun r4 σ3 =>
    if r4 = 0 then (
      Chk_check_p20 σ3 x0 x1 x2 x3 x0)
    else (
      Chk_check_p21 σ3 x0 x1 x2 x3 (1 : Int32) x0))
theorem V.ctX11_check (x0 : Nat) (x1 : Int32) (x2 : Int32) (x3 : Int32) : Ct yX11_check  cX11_check 4 none 14 260 eXV [av x0, iv x1, iv x2, iv x3] (fun σ => Chk_check σ x0 x1 x2 x3) := by
  refine Ct.of (own := RX11) (nm := "check") (desc := "(III)V") rfl (by decide) (Nat.le_of_ble_eq_true rfl) (by decide) (fun X σ => ?_)
  show G X RX11 "check" cX11_check 4 none 14 260 (enX enV (cxz X)) 0 [(0, av x0), (1, iv x1), (2, iv x2), (3, iv x3)] [] σ (Chk_check σ x0 x1 x2 x3)
  unfold Chk_check
  refine g_aload_n 0 0 dX11_check_0 rfl rfl ?_
  refine g_iload_n 1 1 dX11_check_1 rfl rfl ?_
  refine g_callS (fc := fun sς => Chk_isKnown sς x1) (as := [iv x1]) q1793 mdX11_291 (ctX11_isKnown x1) rfl (Nat.le_of_ble_eq_true rfl) (Nat.le_of_ble_eq_true rfl) (Nat.le_of_ble_eq_true rfl) pu_I dX11_check_2 (fun r2 σ1 => ?_)
  refine g_if_eq 20 dX11_check_5 (by decide) ?_ ?_
  · exact gX11_check_p20 _ _ _ _ _ _
  · refine g_iload_n 1 1 dX11_check_8 rfl rfl ?_
    refine g_iload_n 2 2 dX11_check_9 rfl rfl ?_
    refine g_callS (fc := fun sς => Chk_isForm sς x1 x2) (as := [iv x1, iv x2]) q1796 mdX11_294 (ctX11_isForm x1 x2) rfl (Nat.le_of_ble_eq_true rfl) (Nat.le_of_ble_eq_true rfl) (Nat.le_of_ble_eq_true rfl) pu_I dX11_check_10 (fun r4 σ3 => ?_)
    refine g_if_eq 20 dX11_check_13 (by decide) ?_ ?_
    · exact gX11_check_p20 _ _ _ _ _ _
    · refine g_iconst (v := 1) dX11_check_16 (by decide) ?_
      refine g_goto 21 dX11_check_17 (by decide) ?_
      exact gX11_check_p21 _ _ _ _ _ _ _
theorem V.dX11_step_0 : decode cX11_step 0 = .ok (.aload_n 0, 1) := by decide +kernel
theorem V.dX11_step_1 : decode cX11_step 1 = .ok (.iconst 0, 1) := by decide +kernel
theorem V.dX11_step_2 : decode cX11_step 2 = .ok (.putfield 61, 3) := by decide +kernel
theorem V.dX11_step_5 : decode cX11_step 5 = .ok (.aload_n 0, 1) := by decide +kernel
theorem V.dX11_step_6 : decode cX11_step 6 = .ok (.iconst 1, 1) := by decide +kernel
theorem V.dX11_step_7 : decode cX11_step 7 = .ok (.putfield 78, 3) := by decide +kernel
theorem V.dX11_step_10 : decode cX11_step 10 = .ok (.aload_n 0, 1) := by decide +kernel
theorem V.dX11_step_11 : decode cX11_step 11 = .ok (.iload_n 1, 1) := by decide +kernel
theorem V.dX11_step_12 : decode cX11_step 12 = .ok (.iload_n 2, 1) := by decide +kernel
theorem V.dX11_step_13 : decode cX11_step 13 = .ok (.iload_n 3, 1) := by decide +kernel
theorem V.dX11_step_14 : decode cX11_step 14 = .ok (.invokevirtual 308, 3) := by decide +kernel
theorem V.dX11_step_17 : decode cX11_step 17 = .ok (.goto 10, 3) := by decide +kernel
theorem V.dX11_step_20 : decode cX11_step 20 = .ok (.astore 4, 2) := by decide +kernel
theorem V.dX11_step_22 : decode cX11_step 22 = .ok (.aload_n 0, 1) := by decide +kernel
theorem V.dX11_step_23 : decode cX11_step 23 = .ok (.iconst 0, 1) := by decide +kernel
theorem V.dX11_step_24 : decode cX11_step 24 = .ok (.putfield 71, 3) := by decide +kernel
theorem V.dX11_step_27 : decode cX11_step 27 = .ok (.aload_n 0, 1) := by decide +kernel
theorem V.dX11_step_28 : decode cX11_step 28 = .ok (.getfield 34, 3) := by decide +kernel
theorem V.dX11_step_31 : decode cX11_step 31 = .ok (.iconst 0, 1) := by decide +kernel
theorem V.dX11_step_32 : decode cX11_step 32 = .ok (.invokevirtual 81, 3) := by decide +kernel
theorem V.dX11_step_35 : decode cX11_step 35 = .ok (.aload_n 0, 1) := by decide +kernel
theorem V.dX11_step_36 : decode cX11_step 36 = .ok (.getfield 61, 3) := by decide +kernel
theorem V.dX11_step_39 : decode cX11_step 39 = .ok (.ireturn, 1) := by decide +kernel
theorem V.mdX11_308 : MD RX11 308 yX11_check cX11_check 4 none 3 := ⟨Or.inl q1788, q371, q1791, by decide, by decide, by decide +kernel⟩
theorem V.fdX11_61 : FD RX11 61 11 16 0 := ⟨(RX11, TX11, 17), tyX11, rfl, rfl, in_X11, by decide, Or.inl q835, rfl⟩
/-! ModuleEngine$Checker.step(III)I -/
def V.Chk_step_p27  (σ : HS) (x0 : Nat) : Option (Int32 × HS) :=
  ck (tg σ x0 = 12) <|
  ck (tg σ (gR σ x0 11) = 4) <| cl (Row_cut σ (gR σ x0 11) (0 : Int32)) fun _ σ1 =>
  ck (tg σ1 x0 = 12) <|
  some (gI σ1 x0 16, σ1)
theorem V.gX11_step_p27 {X : CX}  (σ : HS) (x0 : Nat) : G X RX11 "step" cX11_step 5 (some .int) 15 283 enI 27 [(0, av x0)] [] σ (Chk_step_p27 σ x0) := by
  unfold Chk_step_p27
  refine g_aload_n 0 0 dX11_step_27 rfl rfl ?_
  refine g_getR fdX11_34 dX11_step_28 ?_
  refine g_iconst (v := 0) dX11_step_31 (by decide) ?_
  refine g_callV (fc := fun sς => Row_cut sς (gR σ x0 11) (0 : Int32)) (ci := 3) (as := [iv (0 : Int32)]) rfl rfl rfl q1281 q1282 mdX11_81 (ctX3_cut (gR σ x0 11) (0 : Int32)) rfl (Nat.le_of_ble_eq_true rfl) (Nat.le_of_ble_eq_true rfl) (Nat.le_of_ble_eq_true rfl) pu_V dX11_step_32 (fun _ σ1 => ?_)
  refine g_aload_n 0 0 dX11_step_35 rfl rfl ?_
  refine g_getI fdX11_61 dX11_step_36 ?_
  exact g_ireturn rfl dX11_step_39
def V.Chk_step (σ : HS) (x0 : Nat) (x1 : Int32) (x2 : Int32) (x3 : Int32) : Option (Int32 × HS) :=
  ck (tg σ x0 = 12) <| bn (sI σ x0 16 (0 : Int32)) fun σ1 =>
  ck (tg σ1 x0 = 12) <| bn (sI σ1 x0 15 (1 : Int32)) fun σ2 =>
  ck (tg σ2 x0 = 12) <| clH (Chk_check σ2 x0 x1 x2 x3) (fun w4 σ5 => ck (tg σ5 w4 = 22) <| (
      ck (tg σ5 x0 = 12) <| bn (sI σ5 x0 13 (0 : Int32)) fun σ6 =>
      Chk_step_p27 σ6 x0)) fun _ σ3 =>
  Chk_step_p27 σ3 x0
theorem V.ctX11_step (x0 : Nat) (x1 : Int32) (x2 : Int32) (x3 : Int32) : CtW yX11_step [(10, 17, 20, 64)] cX11_step 5 (some .int) 15 283 eI [av x0, iv x1, iv x2, iv x3] (fun σ => Chk_step σ x0 x1 x2 x3) := by
  refine CtW.of (own := RX11) (nm := "step") (desc := "(III)I") rfl (by decide) (Nat.le_of_ble_eq_true rfl) (by decide) (fun X σ => ?_)
  show G X RX11 "step" cX11_step 5 (some .int) 15 283 enI 0 [(0, av x0), (1, iv x1), (2, iv x2), (3, iv x3)] [] σ (Chk_step σ x0 x1 x2 x3)
  unfold Chk_step
  refine g_aload_n 0 0 dX11_step_0 rfl rfl ?_
  refine g_iconst (v := 0) dX11_step_1 (by decide) ?_
  refine g_putI fpX11_61 dX11_step_2 (fun σ1 => ?_)
  refine g_aload_n 0 0 dX11_step_5 rfl rfl ?_
  refine g_iconst (v := 1) dX11_step_6 (by decide) ?_
  refine g_putZ fpX11_78 ⟨by decide +kernel, by decide +kernel⟩ dX11_step_7 (fun σ2 => ?_)
  refine g_aload_n 0 0 dX11_step_10 rfl rfl ?_
  refine g_iload_n 1 1 dX11_step_11 rfl rfl ?_
  refine g_iload_n 2 2 dX11_step_12 rfl rfl ?_
  refine g_iload_n 3 3 dX11_step_13 rfl rfl ?_
  refine g_callVH (fc := fun sς => Chk_check sς x0 x1 x2 x3) (ci := 11) (as := [iv x1, iv x2, iv x3]) 10 17 20 64 21 rfl rfl rfl rfl rfl q1790 qs75 q1788 mdX11_308 (ctX11_check x0 x1 x2 x3) rfl (Nat.le_of_ble_eq_true rfl) (Nat.le_of_ble_eq_true rfl) (Nat.le_of_ble_eq_true rfl) pu_V (by decide) (by decide) (by decide) q1752 dX11_step_14 (fun _ σ3 => ?_) (fun w4 σ5 => ?_)
  · refine g_goto 27 dX11_step_17 (by decide) ?_
    refine G.sub [0] rfl ?_
    exact gX11_step_p27 _ _
  · refine g_astore dX11_step_20 (by decide) rfl ?_
    refine g_aload_n 0 1 dX11_step_22 rfl rfl ?_
    refine g_iconst (v := 0) dX11_step_23 (by decide) ?_
    refine g_putZ fpX11_71 ⟨by decide +kernel, by decide +kernel⟩ dX11_step_24 (fun σ6 => ?_)
    refine G.sub [1] rfl ?_
    exact gX11_step_p27 _ _
theorem V.dX16_init_0 : decode cX16_init 0 = .ok (.aload_n 0, 1) := by decide +kernel
theorem V.dX16_init_1 : decode cX16_init 1 = .ok (.invokespecial 1, 3) := by decide +kernel
theorem V.dX16_init_4 : decode cX16_init 4 = .ok (.aload_n 0, 1) := by decide +kernel
theorem V.dX16_init_5 : decode cX16_init 5 = .ok (.sipush 4096, 3) := by decide +kernel
theorem V.dX16_init_8 : decode cX16_init 8 = .ok (.newarray .long, 2) := by decide +kernel
theorem V.dX16_init_10 : decode cX16_init 10 = .ok (.putfield 9, 3) := by decide +kernel
theorem V.dX16_init_13 : decode cX16_init 13 = .ok (.aload_n 0, 1) := by decide +kernel
theorem V.dX16_init_14 : decode cX16_init 14 = .ok (.sipush 200, 3) := by decide +kernel
theorem V.dX16_init_17 : decode cX16_init 17 = .ok (.newarray .int, 2) := by decide +kernel
theorem V.dX16_init_19 : decode cX16_init 19 = .ok (.putfield 13, 3) := by decide +kernel
theorem V.dX16_init_22 : decode cX16_init 22 = .ok (.aload_n 0, 1) := by decide +kernel
theorem V.dX16_init_23 : decode cX16_init 23 = .ok (.sipush 200, 3) := by decide +kernel
theorem V.dX16_init_26 : decode cX16_init 26 = .ok (.newarray .int, 2) := by decide +kernel
theorem V.dX16_init_28 : decode cX16_init 28 = .ok (.putfield 17, 3) := by decide +kernel
theorem V.dX16_init_31 : decode cX16_init 31 = .ok (.aload_n 0, 1) := by decide +kernel
theorem V.dX16_init_32 : decode cX16_init 32 = .ok (.sipush 200, 3) := by decide +kernel
theorem V.dX16_init_35 : decode cX16_init 35 = .ok (.newarray .int, 2) := by decide +kernel
theorem V.dX16_init_37 : decode cX16_init 37 = .ok (.putfield 20, 3) := by decide +kernel
theorem V.dX16_init_40 : decode cX16_init 40 = .ok (.aload_n 0, 1) := by decide +kernel
theorem V.dX16_init_41 : decode cX16_init 41 = .ok (.sipush 200, 3) := by decide +kernel
theorem V.dX16_init_44 : decode cX16_init 44 = .ok (.newarray .boolean, 2) := by decide +kernel
theorem V.dX16_init_46 : decode cX16_init 46 = .ok (.putfield 23, 3) := by decide +kernel
theorem V.dX16_init_49 : decode cX16_init 49 = .ok (.aload_n 0, 1) := by decide +kernel
theorem V.dX16_init_50 : decode cX16_init 50 = .ok (.sipush 512, 3) := by decide +kernel
theorem V.dX16_init_53 : decode cX16_init 53 = .ok (.newarray .int, 2) := by decide +kernel
theorem V.dX16_init_55 : decode cX16_init 55 = .ok (.putfield 29, 3) := by decide +kernel
theorem V.dX16_init_58 : decode cX16_init 58 = .ok (.aload_n 0, 1) := by decide +kernel
theorem V.dX16_init_59 : decode cX16_init 59 = .ok (.sipush 512, 3) := by decide +kernel
theorem V.dX16_init_62 : decode cX16_init 62 = .ok (.newarray .boolean, 2) := by decide +kernel
theorem V.dX16_init_64 : decode cX16_init 64 = .ok (.putfield 32, 3) := by decide +kernel
theorem V.dX16_init_67 : decode cX16_init 67 = .ok (.aload_n 0, 1) := by decide +kernel
theorem V.dX16_init_68 : decode cX16_init 68 = .ok (.iconst (-1), 1) := by decide +kernel
theorem V.dX16_init_69 : decode cX16_init 69 = .ok (.putfield 35, 3) := by decide +kernel
theorem V.dX16_init_72 : decode cX16_init 72 = .ok (.aload_n 0, 1) := by decide +kernel
theorem V.dX16_init_73 : decode cX16_init 73 = .ok (.bipush 16, 2) := by decide +kernel
theorem V.dX16_init_75 : decode cX16_init 75 = .ok (.newarray .long, 2) := by decide +kernel
theorem V.dX16_init_77 : decode cX16_init 77 = .ok (.putfield 39, 3) := by decide +kernel
theorem V.dX16_init_80 : decode cX16_init 80 = .ok (.aload_n 0, 1) := by decide +kernel
theorem V.dX16_init_81 : decode cX16_init 81 = .ok (.aload_n 1, 1) := by decide +kernel
theorem V.dX16_init_82 : decode cX16_init 82 = .ok (.putfield 42, 3) := by decide +kernel
theorem V.dX16_init_85 : decode cX16_init 85 = .ok (.aload_n 0, 1) := by decide +kernel
theorem V.dX16_init_86 : decode cX16_init 86 = .ok (.aload_n 2, 1) := by decide +kernel
theorem V.dX16_init_87 : decode cX16_init 87 = .ok (.putfield 46, 3) := by decide +kernel
theorem V.dX16_init_90 : decode cX16_init 90 = .ok (.aload_n 0, 1) := by decide +kernel
theorem V.dX16_init_91 : decode cX16_init 91 = .ok (.aload_n 3, 1) := by decide +kernel
theorem V.dX16_init_92 : decode cX16_init 92 = .ok (.putfield 50, 3) := by decide +kernel
theorem V.dX16_init_95 : decode cX16_init 95 = .ok (.aload_n 0, 1) := by decide +kernel
theorem V.dX16_init_96 : decode cX16_init 96 = .ok (.aload 4, 2) := by decide +kernel
theorem V.dX16_init_98 : decode cX16_init 98 = .ok (.putfield 54, 3) := by decide +kernel
theorem V.dX16_init_101 : decode cX16_init 101 = .ok (.return_, 1) := by decide +kernel
theorem V.fpX16_9 : FP RX16 "<init>" 9 16 4 (.array .long) := ⟨(RX16, TX16, 26), tyX16, rfl, rfl, in_X16, by decide, tyX16_ok, nmX16, rfl, Or.inr ⟨rfl, rfl, rfl, q1124⟩⟩
theorem V.fpX16_13 : FP RX16 "<init>" 13 16 5 (.array .int) := ⟨(RX16, TX16, 26), tyX16, rfl, rfl, in_X16, by decide, tyX16_ok, nmX16, rfl, Or.inr ⟨rfl, rfl, rfl, q1126⟩⟩
theorem V.fpX16_17 : FP RX16 "<init>" 17 16 6 (.array .int) := ⟨(RX16, TX16, 26), tyX16, rfl, rfl, in_X16, by decide, tyX16_ok, nmX16, rfl, Or.inr ⟨rfl, rfl, rfl, q1127⟩⟩
theorem V.fpX16_20 : FP RX16 "<init>" 20 16 7 (.array .int) := ⟨(RX16, TX16, 26), tyX16, rfl, rfl, in_X16, by decide, tyX16_ok, nmX16, rfl, Or.inr ⟨rfl, rfl, rfl, q1128⟩⟩
theorem V.fpX16_23 : FP RX16 "<init>" 23 16 8 (.array .boolean) := ⟨(RX16, TX16, 26), tyX16, rfl, rfl, in_X16, by decide, tyX16_ok, nmX16, rfl, Or.inr ⟨rfl, rfl, rfl, q1129⟩⟩
theorem V.fpX16_29 : FP RX16 "<init>" 29 16 9 (.array .int) := ⟨(RX16, TX16, 26), tyX16, rfl, rfl, in_X16, by decide, tyX16_ok, nmX16, rfl, Or.inr ⟨rfl, rfl, rfl, q1130⟩⟩
theorem V.fpX16_32 : FP RX16 "<init>" 32 16 10 (.array .boolean) := ⟨(RX16, TX16, 26), tyX16, rfl, rfl, in_X16, by decide, tyX16_ok, nmX16, rfl, Or.inr ⟨rfl, rfl, rfl, q1131⟩⟩
theorem V.fpX16_35 {nm : String} : FP RX16 nm 35 16 21 (.int) := ⟨(RX16, TX16, 26), tyX16, rfl, rfl, in_X16, by decide, tyX16_ok, nmX16, rfl, Or.inl ⟨rfl, Or.inl q1148⟩⟩
theorem V.fpX16_39 : FP RX16 "<init>" 39 16 24 (.array .long) := ⟨(RX16, TX16, 26), tyX16, rfl, rfl, in_X16, by decide, tyX16_ok, nmX16, rfl, Or.inr ⟨rfl, rfl, rfl, q1154⟩⟩
theorem V.fpX16_42 : FP RX16 "<init>" 42 16 0 (.object "ModuleEngine$Flat") := ⟨(RX16, TX16, 26), tyX16, rfl, rfl, in_X16, by decide, tyX16_ok, nmX16, rfl, Or.inr ⟨rfl, rfl, rfl, q1120⟩⟩
theorem V.fpX16_46 : FP RX16 "<init>" 46 16 1 (.object "ModuleEngine$Registers") := ⟨(RX16, TX16, 26), tyX16, rfl, rfl, in_X16, by decide, tyX16_ok, nmX16, rfl, Or.inr ⟨rfl, rfl, rfl, q1121⟩⟩
theorem V.fpX16_50 : FP RX16 "<init>" 50 16 2 (.object "ModuleEngine$Numbers") := ⟨(RX16, TX16, 26), tyX16, rfl, rfl, in_X16, by decide, tyX16_ok, nmX16, rfl, Or.inr ⟨rfl, rfl, rfl, q1122⟩⟩
theorem V.fpX16_54 : FP RX16 "<init>" 54 16 3 (.object "ModuleEngine$Store") := ⟨(RX16, TX16, 26), tyX16, rfl, rfl, in_X16, by decide, tyX16_ok, nmX16, rfl, Or.inr ⟨rfl, rfl, rfl, q1123⟩⟩
/-! ModuleEngine$Runner.<init>(LModuleEngine$Flat;LModuleEngine$Registers;LModuleEngine$Numbers;LModuleEngine$Store;)V -/
def V.Run_init (σ : HS) (x0 : Nat) (x1 : Nat) (x2 : Nat) (x3 : Nat) (x4 : Nat) : Option (Unit × HS) :=
  ck (¬ x0 = 0) <|
  ck (lenok (4096 : Int32)) <| newa σ 101 (4096 : Int32) fun a1 σ2 =>
  ck (tg σ2 x0 = 17) <| bn (sR σ2 x0 4 a1) fun σ3 =>
  ck (lenok (200 : Int32)) <| newa σ3 100 (200 : Int32) fun a4 σ5 =>
  ck (tg σ5 x0 = 17) <| bn (sR σ5 x0 5 a4) fun σ6 =>
  ck (lenok (200 : Int32)) <| newa σ6 100 (200 : Int32) fun a7 σ8 =>
  ck (tg σ8 x0 = 17) <| bn (sR σ8 x0 6 a7) fun σ9 =>
  ck (lenok (200 : Int32)) <| newa σ9 100 (200 : Int32) fun a10 σ11 =>
  ck (tg σ11 x0 = 17) <| bn (sR σ11 x0 7 a10) fun σ12 =>
  ck (lenok (200 : Int32)) <| newa σ12 103 (200 : Int32) fun a13 σ14 =>
  ck (tg σ14 x0 = 17) <| bn (sR σ14 x0 8 a13) fun σ15 =>
  ck (lenok (512 : Int32)) <| newa σ15 100 (512 : Int32) fun a16 σ17 =>
  ck (tg σ17 x0 = 17) <| bn (sR σ17 x0 9 a16) fun σ18 =>
  ck (lenok (512 : Int32)) <| newa σ18 103 (512 : Int32) fun a19 σ20 =>
  ck (tg σ20 x0 = 17) <| bn (sR σ20 x0 10 a19) fun σ21 =>
  ck (tg σ21 x0 = 17) <| bn (sI σ21 x0 21 (-1 : Int32)) fun σ22 =>
  ck (lenok (16 : Int32)) <| newa σ22 101 (16 : Int32) fun a23 σ24 =>
  ck (tg σ24 x0 = 17) <| bn (sR σ24 x0 24 a23) fun σ25 =>
  ck (tg σ25 x0 = 17) <| bn (sR σ25 x0 0 x1) fun σ26 =>
  ck (tg σ26 x0 = 17) <| bn (sR σ26 x0 1 x2) fun σ27 =>
  ck (tg σ27 x0 = 17) <| bn (sR σ27 x0 2 x3) fun σ28 =>
  ck (tg σ28 x0 = 17) <| bn (sR σ28 x0 3 x4) fun σ29 =>
  some ((), σ29)
theorem V.ctX16_init (x0 : Nat) (x1 : Nat) (x2 : Nat) (x3 : Nat) (x4 : Nat) : Ct yX16_init  cX16_init 5 none 1 24 eV [av x0, av x1, av x2, av x3, av x4] (fun σ => Run_init σ x0 x1 x2 x3 x4) := by
  refine Ct.of (own := RX16) (nm := "<init>") (desc := "(LModuleEngine$Flat;LModuleEngine$Registers;LModuleEngine$Numbers;LModuleEngine$Store;)V") rfl (by decide) (Nat.le_of_ble_eq_true rfl) (by decide) (fun X σ => ?_)
  show G X RX16 "<init>" cX16_init 5 none 1 24 enV 0 [(0, av x0), (1, av x1), (2, av x2), (3, av x3), (4, av x4)] [] σ (Run_init σ x0 x1 x2 x3 x4)
  unfold Run_init
  refine g_aload_n 0 0 dX16_init_0 rfl rfl ?_
  refine g_objInit q1119 (Nat.le_of_ble_eq_true rfl) (Nat.le_of_ble_eq_true rfl) dX16_init_1 ?_
  refine g_aload_n 0 0 dX16_init_4 rfl rfl ?_
  refine g_sipush (v := 4096) dX16_init_5 (by decide) ?_
  refine g_na_long dX16_init_8 (fun a1 σ2 => ?_)
  refine g_putR fpX16_9 rfl dX16_init_10 (fun σ3 => ?_)
  refine g_aload_n 0 0 dX16_init_13 rfl rfl ?_
  refine g_sipush (v := 200) dX16_init_14 (by decide) ?_
  refine g_na_int dX16_init_17 (fun a4 σ5 => ?_)
  refine g_putR fpX16_13 rfl dX16_init_19 (fun σ6 => ?_)
  refine g_aload_n 0 0 dX16_init_22 rfl rfl ?_
  refine g_sipush (v := 200) dX16_init_23 (by decide) ?_
  refine g_na_int dX16_init_26 (fun a7 σ8 => ?_)
  refine g_putR fpX16_17 rfl dX16_init_28 (fun σ9 => ?_)
  refine g_aload_n 0 0 dX16_init_31 rfl rfl ?_
  refine g_sipush (v := 200) dX16_init_32 (by decide) ?_
  refine g_na_int dX16_init_35 (fun a10 σ11 => ?_)
  refine g_putR fpX16_20 rfl dX16_init_37 (fun σ12 => ?_)
  refine g_aload_n 0 0 dX16_init_40 rfl rfl ?_
  refine g_sipush (v := 200) dX16_init_41 (by decide) ?_
  refine g_na_bool dX16_init_44 (fun a13 σ14 => ?_)
  refine g_putR fpX16_23 rfl dX16_init_46 (fun σ15 => ?_)
  refine g_aload_n 0 0 dX16_init_49 rfl rfl ?_
  refine g_sipush (v := 512) dX16_init_50 (by decide) ?_
  refine g_na_int dX16_init_53 (fun a16 σ17 => ?_)
  refine g_putR fpX16_29 rfl dX16_init_55 (fun σ18 => ?_)
  refine g_aload_n 0 0 dX16_init_58 rfl rfl ?_
  refine g_sipush (v := 512) dX16_init_59 (by decide) ?_
  refine g_na_bool dX16_init_62 (fun a19 σ20 => ?_)
  refine g_putR fpX16_32 rfl dX16_init_64 (fun σ21 => ?_)
  refine g_aload_n 0 0 dX16_init_67 rfl rfl ?_
  refine g_iconst (v := (-1)) dX16_init_68 (by decide) ?_
  refine g_putI fpX16_35 dX16_init_69 (fun σ22 => ?_)
  refine g_aload_n 0 0 dX16_init_72 rfl rfl ?_
  refine g_bipush (v := 16) dX16_init_73 (by decide) ?_
  refine g_na_long dX16_init_75 (fun a23 σ24 => ?_)
  refine g_putR fpX16_39 rfl dX16_init_77 (fun σ25 => ?_)
  refine g_aload_n 0 0 dX16_init_80 rfl rfl ?_
  refine g_aload_n 1 1 dX16_init_81 rfl rfl ?_
  refine g_putR fpX16_42 rfl dX16_init_82 (fun σ26 => ?_)
  refine g_aload_n 0 0 dX16_init_85 rfl rfl ?_
  refine g_aload_n 2 2 dX16_init_86 rfl rfl ?_
  refine g_putR fpX16_46 rfl dX16_init_87 (fun σ27 => ?_)
  refine g_aload_n 0 0 dX16_init_90 rfl rfl ?_
  refine g_aload_n 3 3 dX16_init_91 rfl rfl ?_
  refine g_putR fpX16_50 rfl dX16_init_92 (fun σ28 => ?_)
  refine g_aload_n 0 0 dX16_init_95 rfl rfl ?_
  refine g_aload 4 dX16_init_96 rfl ?_
  refine g_putR fpX16_54 rfl dX16_init_98 (fun σ29 => ?_)
  exact g_return rfl dX16_init_101
theorem V.dX16_isBusy_0 : decode cX16_isBusy 0 = .ok (.aload_n 0, 1) := by decide +kernel
theorem V.dX16_isBusy_1 : decode cX16_isBusy 1 = .ok (.getfield 58, 3) := by decide +kernel
theorem V.dX16_isBusy_4 : decode cX16_isBusy 4 = .ok (.iconst 1, 1) := by decide +kernel
theorem V.dX16_isBusy_5 : decode cX16_isBusy 5 = .ok (.if_icmp .eq 11, 3) := by decide +kernel
theorem V.dX16_isBusy_8 : decode cX16_isBusy 8 = .ok (.aload_n 0, 1) := by decide +kernel
theorem V.dX16_isBusy_9 : decode cX16_isBusy 9 = .ok (.getfield 58, 3) := by decide +kernel
theorem V.dX16_isBusy_12 : decode cX16_isBusy 12 = .ok (.iconst 5, 1) := by decide +kernel
theorem V.dX16_isBusy_13 : decode cX16_isBusy 13 = .ok (.if_icmp .ne 7, 3) := by decide +kernel
theorem V.dX16_isBusy_16 : decode cX16_isBusy 16 = .ok (.iconst 1, 1) := by decide +kernel
theorem V.dX16_isBusy_17 : decode cX16_isBusy 17 = .ok (.goto 4, 3) := by decide +kernel
theorem V.dX16_isBusy_20 : decode cX16_isBusy 20 = .ok (.iconst 0, 1) := by decide +kernel
theorem V.dX16_isBusy_21 : decode cX16_isBusy 21 = .ok (.ireturn, 1) := by decide +kernel
theorem V.fdX16_58 : FD RX16 58 16 18 0 := ⟨(RX16, TX16, 26), tyX16, rfl, rfl, in_X16, by decide, Or.inl q1142, rfl⟩
/-! ModuleEngine$Runner.isBusy()Z -/
def V.Run_isBusy_p16  (σ : HS)  : Option (Int32 × HS) :=
  some ((1 : Int32), σ)
theorem V.gX16_isBusy_p16 {X : CX}  (σ : HS)  : G X RX16 "isBusy" cX16_isBusy 1 (some .boolean) 0 0 enI 16 [] [] σ (Run_isBusy_p16 σ ) := by
  unfold Run_isBusy_p16
  refine g_iconst (v := 1) dX16_isBusy_16 (by decide) ?_
  refine g_goto 21 dX16_isBusy_17 (by decide) ?_
  exact g_zreturn rfl (by decide +kernel) dX16_isBusy_21
def V.Run_isBusy (σ : HS) (x0 : Nat) : Option (Int32 × HS) :=
  ck (tg σ x0 = 17) <|
  if (gI σ x0 18) = (1 : Int32) then (
    Run_isBusy_p16 σ)
  else (
    ck (tg σ x0 = 17) <|
    if (gI σ x0 18) = (5 : Int32) then (
      Run_isBusy_p16 σ)
    else (
      some ((0 : Int32), σ)))
theorem V.ctX16_isBusy (x0 : Nat) : Ct yX16_isBusy  cX16_isBusy 1 (some .boolean) 0 0 eI [av x0] (fun σ => Run_isBusy σ x0) := by
  refine Ct.of (own := RX16) (nm := "isBusy") (desc := "()Z") rfl (by decide) (Nat.le_of_ble_eq_true rfl) (by decide) (fun X σ => ?_)
  show G X RX16 "isBusy" cX16_isBusy 1 (some .boolean) 0 0 enI 0 [(0, av x0)] [] σ (Run_isBusy σ x0)
  unfold Run_isBusy
  refine g_aload_n 0 0 dX16_isBusy_0 rfl rfl ?_
  refine g_getI fdX16_58 dX16_isBusy_1 ?_
  refine g_iconst (v := 1) dX16_isBusy_4 (by decide) ?_
  refine g_icmp_eq 16 dX16_isBusy_5 (by decide) ?_ ?_
  · refine G.sub [] rfl ?_
    exact gX16_isBusy_p16 _
  · refine g_aload_n 0 0 dX16_isBusy_8 rfl rfl ?_
    refine g_getI fdX16_58 dX16_isBusy_9 ?_
    refine g_iconst (v := 5) dX16_isBusy_12 (by decide) ?_
    refine g_icmp_ne 20 dX16_isBusy_13 (by decide) ?_ ?_
    · refine g_iconst (v := 0) dX16_isBusy_20 (by decide) ?_
      exact g_zreturn rfl (by decide +kernel) dX16_isBusy_21
    · refine G.sub [] rfl ?_
      exact gX16_isBusy_p16 _
theorem V.dX16_clear_0 : decode cX16_clear 0 = .ok (.aload_n 0, 1) := by decide +kernel
theorem V.dX16_clear_1 : decode cX16_clear 1 = .ok (.iconst 0, 1) := by decide +kernel
theorem V.dX16_clear_2 : decode cX16_clear 2 = .ok (.putfield 64, 3) := by decide +kernel
theorem V.dX16_clear_5 : decode cX16_clear 5 = .ok (.aload_n 0, 1) := by decide +kernel
theorem V.dX16_clear_6 : decode cX16_clear 6 = .ok (.iconst 0, 1) := by decide +kernel
theorem V.dX16_clear_7 : decode cX16_clear 7 = .ok (.putfield 67, 3) := by decide +kernel
theorem V.dX16_clear_10 : decode cX16_clear 10 = .ok (.aload_n 0, 1) := by decide +kernel
theorem V.dX16_clear_11 : decode cX16_clear 11 = .ok (.iconst 0, 1) := by decide +kernel
theorem V.dX16_clear_12 : decode cX16_clear 12 = .ok (.putfield 70, 3) := by decide +kernel
theorem V.dX16_clear_15 : decode cX16_clear 15 = .ok (.aload_n 0, 1) := by decide +kernel
theorem V.dX16_clear_16 : decode cX16_clear 16 = .ok (.iconst 0, 1) := by decide +kernel
theorem V.dX16_clear_17 : decode cX16_clear 17 = .ok (.putfield 73, 3) := by decide +kernel
theorem V.dX16_clear_20 : decode cX16_clear 20 = .ok (.aload_n 0, 1) := by decide +kernel
theorem V.dX16_clear_21 : decode cX16_clear 21 = .ok (.iconst 0, 1) := by decide +kernel
theorem V.dX16_clear_22 : decode cX16_clear 22 = .ok (.putfield 76, 3) := by decide +kernel
theorem V.dX16_clear_25 : decode cX16_clear 25 = .ok (.aload_n 0, 1) := by decide +kernel
theorem V.dX16_clear_26 : decode cX16_clear 26 = .ok (.iconst (-1), 1) := by decide +kernel
theorem V.dX16_clear_27 : decode cX16_clear 27 = .ok (.putfield 35, 3) := by decide +kernel
theorem V.dX16_clear_30 : decode cX16_clear 30 = .ok (.return_, 1) := by decide +kernel
theorem V.fpX16_64 {nm : String} : FP RX16 nm 64 16 20 (.int) := ⟨(RX16, TX16, 26), tyX16, rfl, rfl, in_X16, by decide, tyX16_ok, nmX16, rfl, Or.inl ⟨rfl, Or.inl q1146⟩⟩
theorem V.fpX16_67 {nm : String} : FP RX16 nm 67 16 13 (.int) := ⟨(RX16, TX16, 26), tyX16, rfl, rfl, in_X16, by decide, tyX16_ok, nmX16, rfl, Or.inl ⟨rfl, Or.inl q1136⟩⟩
theorem V.fpX16_70 {nm : String} : FP RX16 nm 70 16 14 (.int) := ⟨(RX16, TX16, 26), tyX16, rfl, rfl, in_X16, by decide, tyX16_ok, nmX16, rfl, Or.inl ⟨rfl, Or.inl q1138⟩⟩
theorem V.fpX16_73 {nm : String} : FP RX16 nm 73 16 25 (.int) := ⟨(RX16, TX16, 26), tyX16, rfl, rfl, in_X16, by decide, tyX16_ok, nmX16, rfl, Or.inl ⟨rfl, Or.inl q1156⟩⟩
theorem V.fpX16_76 {nm : String} : FP RX16 nm 76 16 17 (.int) := ⟨(RX16, TX16, 26), tyX16, rfl, rfl, in_X16, by decide, tyX16_ok, nmX16, rfl, Or.inl ⟨rfl, Or.inl q1141⟩⟩
/-! ModuleEngine$Runner.clear()V -/
def V.Run_clear (σ : HS) (x0 : Nat) : Option (Unit × HS) :=
  ck (tg σ x0 = 17) <| bn (sI σ x0 20 (0 : Int32)) fun σ1 =>
  ck (tg σ1 x0 = 17) <| bn (sI σ1 x0 13 (0 : Int32)) fun σ2 =>
  ck (tg σ2 x0 = 17) <| bn (sI σ2 x0 14 (0 : Int32)) fun σ3 =>
  ck (tg σ3 x0 = 17) <| bn (sI σ3 x0 25 (0 : Int32)) fun σ4 =>
  ck (tg σ4 x0 = 17) <| bn (sI σ4 x0 17 (0 : Int32)) fun σ5 =>
  ck (tg σ5 x0 = 17) <| bn (sI σ5 x0 21 (-1 : Int32)) fun σ6 =>
  some ((), σ6)
theorem V.ctX16_clear (x0 : Nat) : Ct yX16_clear  cX16_clear 1 none 0 0 eV [av x0] (fun σ => Run_clear σ x0) := by
  refine Ct.of (own := RX16) (nm := "clear") (desc := "()V") rfl (by decide) (Nat.le_of_ble_eq_true rfl) (by decide) (fun X σ => ?_)
  show G X RX16 "clear" cX16_clear 1 none 0 0 enV 0 [(0, av x0)] [] σ (Run_clear σ x0)
  unfold Run_clear
  refine g_aload_n 0 0 dX16_clear_0 rfl rfl ?_
  refine g_iconst (v := 0) dX16_clear_1 (by decide) ?_
  refine g_putI fpX16_64 dX16_clear_2 (fun σ1 => ?_)
  refine g_aload_n 0 0 dX16_clear_5 rfl rfl ?_
  refine g_iconst (v := 0) dX16_clear_6 (by decide) ?_
  refine g_putI fpX16_67 dX16_clear_7 (fun σ2 => ?_)
  refine g_aload_n 0 0 dX16_clear_10 rfl rfl ?_
  refine g_iconst (v := 0) dX16_clear_11 (by decide) ?_
  refine g_putI fpX16_70 dX16_clear_12 (fun σ3 => ?_)
  refine g_aload_n 0 0 dX16_clear_15 rfl rfl ?_
  refine g_iconst (v := 0) dX16_clear_16 (by decide) ?_
  refine g_putI fpX16_73 dX16_clear_17 (fun σ4 => ?_)
  refine g_aload_n 0 0 dX16_clear_20 rfl rfl ?_
  refine g_iconst (v := 0) dX16_clear_21 (by decide) ?_
  refine g_putI fpX16_76 dX16_clear_22 (fun σ5 => ?_)
  refine g_aload_n 0 0 dX16_clear_25 rfl rfl ?_
  refine g_iconst (v := (-1)) dX16_clear_26 (by decide) ?_
  refine g_putI fpX16_35 dX16_clear_27 (fun σ6 => ?_)
  exact g_return rfl dX16_clear_30
theorem V.dX16_stop_0 : decode cX16_stop 0 = .ok (.aload_n 0, 1) := by decide +kernel
theorem V.dX16_stop_1 : decode cX16_stop 1 = .ok (.iconst 3, 1) := by decide +kernel
theorem V.dX16_stop_2 : decode cX16_stop 2 = .ok (.putfield 58, 3) := by decide +kernel
theorem V.dX16_stop_5 : decode cX16_stop 5 = .ok (.aload_n 0, 1) := by decide +kernel
theorem V.dX16_stop_6 : decode cX16_stop 6 = .ok (.iload_n 1, 1) := by decide +kernel
theorem V.dX16_stop_7 : decode cX16_stop 7 = .ok (.putfield 61, 3) := by decide +kernel
theorem V.dX16_stop_10 : decode cX16_stop 10 = .ok (.return_, 1) := by decide +kernel
theorem V.fpX16_58 {nm : String} : FP RX16 nm 58 16 18 (.int) := ⟨(RX16, TX16, 26), tyX16, rfl, rfl, in_X16, by decide, tyX16_ok, nmX16, rfl, Or.inl ⟨rfl, Or.inl q1142⟩⟩
theorem V.fpX16_61 {nm : String} : FP RX16 nm 61 16 19 (.int) := ⟨(RX16, TX16, 26), tyX16, rfl, rfl, in_X16, by decide, tyX16_ok, nmX16, rfl, Or.inl ⟨rfl, Or.inl q1144⟩⟩
/-! ModuleEngine$Runner.stop(I)V -/
def V.Run_stop (σ : HS) (x0 : Nat) (x1 : Int32) : Option (Unit × HS) :=
  ck (tg σ x0 = 17) <| bn (sI σ x0 18 (3 : Int32)) fun σ1 =>
  ck (tg σ1 x0 = 17) <| bn (sI σ1 x0 19 x1) fun σ2 =>
  some ((), σ2)
theorem V.ctX16_stop (x0 : Nat) (x1 : Int32) : Ct yX16_stop  cX16_stop 2 none 0 0 eV [av x0, iv x1] (fun σ => Run_stop σ x0 x1) := by
  refine Ct.of (own := RX16) (nm := "stop") (desc := "(I)V") rfl (by decide) (Nat.le_of_ble_eq_true rfl) (by decide) (fun X σ => ?_)
  show G X RX16 "stop" cX16_stop 2 none 0 0 enV 0 [(0, av x0), (1, iv x1)] [] σ (Run_stop σ x0 x1)
  unfold Run_stop
  refine g_aload_n 0 0 dX16_stop_0 rfl rfl ?_
  refine g_iconst (v := 3) dX16_stop_1 (by decide) ?_
  refine g_putI fpX16_58 dX16_stop_2 (fun σ1 => ?_)
  refine g_aload_n 0 0 dX16_stop_5 rfl rfl ?_
  refine g_iload_n 1 1 dX16_stop_6 rfl rfl ?_
  refine g_putI fpX16_61 dX16_stop_7 (fun σ2 => ?_)
  exact g_return rfl dX16_stop_10
theorem V.dX16_changeOver_0 : decode cX16_changeOver 0 = .ok (.aload_n 0, 1) := by decide +kernel
theorem V.dX16_changeOver_1 : decode cX16_changeOver 1 = .ok (.getfield 32, 3) := by decide +kernel
theorem V.dX16_changeOver_4 : decode cX16_changeOver 4 = .ok (.iload_n 1, 1) := by decide +kernel
theorem V.dX16_changeOver_5 : decode cX16_changeOver 5 = .ok (.baload, 1) := by decide +kernel
theorem V.dX16_changeOver_6 : decode cX16_changeOver 6 = .ok (.ifCond .eq 4, 3) := by decide +kernel
theorem V.dX16_changeOver_9 : decode cX16_changeOver 9 = .ok (.return_, 1) := by decide +kernel
theorem V.dX16_changeOver_10 : decode cX16_changeOver 10 = .ok (.aload_n 0, 1) := by decide +kernel
theorem V.dX16_changeOver_11 : decode cX16_changeOver 11 = .ok (.getfield 32, 3) := by decide +kernel
theorem V.dX16_changeOver_14 : decode cX16_changeOver 14 = .ok (.iload_n 1, 1) := by decide +kernel
theorem V.dX16_changeOver_15 : decode cX16_changeOver 15 = .ok (.iconst 1, 1) := by decide +kernel
theorem V.dX16_changeOver_16 : decode cX16_changeOver 16 = .ok (.bastore, 1) := by decide +kernel
theorem V.dX16_changeOver_17 : decode cX16_changeOver 17 = .ok (.aload_n 0, 1) := by decide +kernel
theorem V.dX16_changeOver_18 : decode cX16_changeOver 18 = .ok (.dup, 1) := by decide +kernel
theorem V.dX16_changeOver_19 : decode cX16_changeOver 19 = .ok (.getfield 147, 3) := by decide +kernel
theorem V.dX16_changeOver_22 : decode cX16_changeOver 22 = .ok (.iconst 1, 1) := by decide +kernel
theorem V.dX16_changeOver_23 : decode cX16_changeOver 23 = .ok (.iadd, 1) := by decide +kernel
theorem V.dX16_changeOver_24 : decode cX16_changeOver 24 = .ok (.putfield 147, 3) := by decide +kernel
theorem V.dX16_changeOver_27 : decode cX16_changeOver 27 = .ok (.aload_n 0, 1) := by decide +kernel
theorem V.dX16_changeOver_28 : decode cX16_changeOver 28 = .ok (.getfield 46, 3) := by decide +kernel
theorem V.dX16_changeOver_31 : decode cX16_changeOver 31 = .ok (.iload_n 2, 1) := by decide +kernel
theorem V.dX16_changeOver_32 : decode cX16_changeOver 32 = .ok (.invokevirtual 150, 3) := by decide +kernel
theorem V.dX16_changeOver_35 : decode cX16_changeOver 35 = .ok (.return_, 1) := by decide +kernel
theorem V.fdX16_32 : FD RX16 32 16 10 2 := ⟨(RX16, TX16, 26), tyX16, rfl, rfl, in_X16, by decide, Or.inl q1131, rfl⟩
theorem V.fdX16_147 : FD RX16 147 16 11 0 := ⟨(RX16, TX16, 26), tyX16, rfl, rfl, in_X16, by decide, Or.inl q1132, rfl⟩
theorem V.fpX16_147 {nm : String} : FP RX16 nm 147 16 11 (.int) := ⟨(RX16, TX16, 26), tyX16, rfl, rfl, in_X16, by decide, tyX16_ok, nmX16, rfl, Or.inl ⟨rfl, Or.inl q1132⟩⟩
theorem V.fdX16_46 : FD RX16 46 16 1 2 := ⟨(RX16, TX16, 26), tyX16, rfl, rfl, in_X16, by decide, Or.inl q1121, rfl⟩
theorem V.mdX16_150 : MD RX16 150 yX7_need cX7_need 3 none 1 := ⟨Or.inl q2397, q367, q2400, by decide, by decide, by decide +kernel⟩
/-! ModuleEngine$Runner.changeOver(II)V -/
def V.Run_changeOver (σ : HS) (x0 : Nat) (x1 : Int32) (x2 : Int32) : Option (Unit × HS) :=
  ck (tg σ x0 = 17) <|
  ck (tg σ (gR σ x0 10) = 103 ∧ inb x1 (ln σ (gR σ x0 10))) <|
  if (gI σ (gR σ x0 10) (ix x1)) = 0 then (
    ck (tg σ x0 = 17) <|
    ck (tg σ (gR σ x0 10) = 103 ∧ inb x1 (ln σ (gR σ x0 10)) ∧ zb (1 : Int32)) <| bn (sI σ (gR σ x0 10) (ix x1) (1 : Int32)) fun σ1 =>
    ck (tg σ1 x0 = 17) <|
    ck (tg σ1 x0 = 17) <| bn (sI σ1 x0 11 ((gI σ1 x0 11) + (1 : Int32))) fun σ2 =>
    ck (tg σ2 x0 = 17) <|
    ck (tg σ2 (gR σ2 x0 1) = 8) <| cl (Reg_need σ2 (gR σ2 x0 1) x2) fun _ σ3 =>
    some ((), σ3))
  else (
    some ((), σ))
theorem V.ctX16_changeOver (x0 : Nat) (x1 : Int32) (x2 : Int32) : Ct yX16_changeOver  cX16_changeOver 3 none 12 322 eV [av x0, iv x1, iv x2] (fun σ => Run_changeOver σ x0 x1 x2) := by
  refine Ct.of (own := RX16) (nm := "changeOver") (desc := "(II)V") rfl (by decide) (Nat.le_of_ble_eq_true rfl) (by decide) (fun X σ => ?_)
  show G X RX16 "changeOver" cX16_changeOver 3 none 12 322 enV 0 [(0, av x0), (1, iv x1), (2, iv x2)] [] σ (Run_changeOver σ x0 x1 x2)
  unfold Run_changeOver
  refine g_aload_n 0 0 dX16_changeOver_0 rfl rfl ?_
  refine g_getR fdX16_32 dX16_changeOver_1 ?_
  refine g_iload_n 1 1 dX16_changeOver_4 rfl rfl ?_
  refine g_zaload dX16_changeOver_5 ?_
  refine g_if_eq 10 dX16_changeOver_6 (by decide) ?_ ?_
  · refine g_aload_n 0 0 dX16_changeOver_10 rfl rfl ?_
    refine g_getR fdX16_32 dX16_changeOver_11 ?_
    refine g_iload_n 1 1 dX16_changeOver_14 rfl rfl ?_
    refine g_iconst (v := 1) dX16_changeOver_15 (by decide) ?_
    refine g_zastore dX16_changeOver_16 (fun σ1 => ?_)
    refine g_aload_n 0 0 dX16_changeOver_17 rfl rfl ?_
    refine g_dup dX16_changeOver_18 rfl ?_
    refine g_getI fdX16_147 dX16_changeOver_19 ?_
    refine g_iconst (v := 1) dX16_changeOver_22 (by decide) ?_
    refine g_iadd dX16_changeOver_23 ?_
    refine g_putI fpX16_147 dX16_changeOver_24 (fun σ2 => ?_)
    refine g_aload_n 0 0 dX16_changeOver_27 rfl rfl ?_
    refine g_getR fdX16_46 dX16_changeOver_28 ?_
    refine g_iload_n 2 2 dX16_changeOver_31 rfl rfl ?_
    refine g_callV (fc := fun sς => Reg_need sς (gR σ2 x0 1) x2) (ci := 7) (as := [iv x2]) rfl rfl rfl q2398 q2399 mdX16_150 (ctX7_need (gR σ2 x0 1) x2) rfl (Nat.le_of_ble_eq_true rfl) (Nat.le_of_ble_eq_true rfl) (Nat.le_of_ble_eq_true rfl) pu_V dX16_changeOver_32 (fun _ σ3 => ?_)
    exact g_return rfl dX16_changeOver_35
  · exact g_return rfl dX16_changeOver_9
theorem V.dX16_setLocals_0 : decode cX16_setLocals 0 = .ok (.aload_n 0, 1) := by decide +kernel
theorem V.dX16_setLocals_1 : decode cX16_setLocals 1 = .ok (.getfield 54, 3) := by decide +kernel
theorem V.dX16_setLocals_4 : decode cX16_setLocals 4 = .ok (.iload_n 1, 1) := by decide +kernel
theorem V.dX16_setLocals_5 : decode cX16_setLocals 5 = .ok (.invokevirtual 154, 3) := by decide +kernel
theorem V.dX16_setLocals_8 : decode cX16_setLocals 8 = .ok (.astore 4, 2) := by decide +kernel
theorem V.dX16_setLocals_10 : decode cX16_setLocals 10 = .ok (.iconst 5, 1) := by decide +kernel
theorem V.dX16_setLocals_11 : decode cX16_setLocals 11 = .ok (.iload_n 2, 1) := by decide +kernel
theorem V.dX16_setLocals_12 : decode cX16_setLocals 12 = .ok (.aload_n 0, 1) := by decide +kernel
theorem V.dX16_setLocals_13 : decode cX16_setLocals 13 = .ok (.getfield 54, 3) := by decide +kernel
theorem V.dX16_setLocals_16 : decode cX16_setLocals 16 = .ok (.getfield 160, 3) := by decide +kernel
theorem V.dX16_setLocals_19 : decode cX16_setLocals 19 = .ok (.aload_n 0, 1) := by decide +kernel
theorem V.dX16_setLocals_20 : decode cX16_setLocals 20 = .ok (.getfield 54, 3) := by decide +kernel
theorem V.dX16_setLocals_23 : decode cX16_setLocals 23 = .ok (.getfield 163, 3) := by decide +kernel
theorem V.dX16_setLocals_26 : decode cX16_setLocals 26 = .ok (.iload_n 1, 1) := by decide +kernel
theorem V.dX16_setLocals_27 : decode cX16_setLocals 27 = .ok (.invokevirtual 101, 3) := by decide +kernel
theorem V.dX16_setLocals_30 : decode cX16_setLocals 30 = .ok (.iaload, 1) := by decide +kernel
theorem V.dX16_setLocals_31 : decode cX16_setLocals 31 = .ok (.isub, 1) := by decide +kernel
theorem V.dX16_setLocals_32 : decode cX16_setLocals 32 = .ok (.imul, 1) := by decide +kernel
theorem V.dX16_setLocals_33 : decode cX16_setLocals 33 = .ok (.istore 5, 2) := by decide +kernel
theorem V.dX16_setLocals_35 : decode cX16_setLocals 35 = .ok (.iload_n 3, 1) := by decide +kernel
theorem V.dX16_setLocals_36 : decode cX16_setLocals 36 = .ok (.aload_n 0, 1) := by decide +kernel
theorem V.dX16_setLocals_37 : decode cX16_setLocals 37 = .ok (.getfield 42, 3) := by decide +kernel
theorem V.dX16_setLocals_40 : decode cX16_setLocals 40 = .ok (.iload_n 2, 1) := by decide +kernel
theorem V.dX16_setLocals_41 : decode cX16_setLocals 41 = .ok (.invokevirtual 166, 3) := by decide +kernel
theorem V.dX16_setLocals_44 : decode cX16_setLocals 44 = .ok (.iadd, 1) := by decide +kernel
theorem V.dX16_setLocals_45 : decode cX16_setLocals 45 = .ok (.istore 6, 2) := by decide +kernel
theorem V.dX16_setLocals_47 : decode cX16_setLocals 47 = .ok (.aload 4, 2) := by decide +kernel
theorem V.dX16_setLocals_49 : decode cX16_setLocals 49 = .ok (.getfield 167, 3) := by decide +kernel
theorem V.dX16_setLocals_52 : decode cX16_setLocals 52 = .ok (.iload 5, 2) := by decide +kernel
theorem V.dX16_setLocals_54 : decode cX16_setLocals 54 = .ok (.iconst 1, 1) := by decide +kernel
theorem V.dX16_setLocals_55 : decode cX16_setLocals 55 = .ok (.iadd, 1) := by decide +kernel
theorem V.dX16_setLocals_56 : decode cX16_setLocals 56 = .ok (.invokevirtual 101, 3) := by decide +kernel
theorem V.dX16_setLocals_59 : decode cX16_setLocals 59 = .ok (.istore 7, 2) := by decide +kernel
theorem V.dX16_setLocals_61 : decode cX16_setLocals 61 = .ok (.iconst 0, 1) := by decide +kernel
theorem V.dX16_setLocals_62 : decode cX16_setLocals 62 = .ok (.istore 8, 2) := by decide +kernel
theorem V.dX16_setLocals_64 : decode cX16_setLocals 64 = .ok (.iload 8, 2) := by decide +kernel
theorem V.dX16_setLocals_66 : decode cX16_setLocals 66 = .ok (.aload 4, 2) := by decide +kernel
theorem V.dX16_setLocals_68 : decode cX16_setLocals 68 = .ok (.getfield 167, 3) := by decide +kernel
theorem V.dX16_setLocals_71 : decode cX16_setLocals 71 = .ok (.iload 5, 2) := by decide +kernel
theorem V.dX16_setLocals_73 : decode cX16_setLocals 73 = .ok (.invokevirtual 101, 3) := by decide +kernel
theorem V.dX16_setLocals_76 : decode cX16_setLocals 76 = .ok (.if_icmp .ge 93, 3) := by decide +kernel
theorem V.dX16_setLocals_79 : decode cX16_setLocals 79 = .ok (.aload 4, 2) := by decide +kernel
theorem V.dX16_setLocals_81 : decode cX16_setLocals 81 = .ok (.getfield 169, 3) := by decide +kernel
theorem V.dX16_setLocals_84 : decode cX16_setLocals 84 = .ok (.iload 7, 2) := by decide +kernel
theorem V.dX16_setLocals_86 : decode cX16_setLocals 86 = .ok (.iconst 2, 1) := by decide +kernel
theorem V.dX16_setLocals_87 : decode cX16_setLocals 87 = .ok (.iload 8, 2) := by decide +kernel
theorem V.dX16_setLocals_89 : decode cX16_setLocals 89 = .ok (.imul, 1) := by decide +kernel
theorem V.dX16_setLocals_90 : decode cX16_setLocals 90 = .ok (.iadd, 1) := by decide +kernel
theorem V.dX16_setLocals_91 : decode cX16_setLocals 91 = .ok (.invokevirtual 101, 3) := by decide +kernel
theorem V.dX16_setLocals_94 : decode cX16_setLocals 94 = .ok (.istore 9, 2) := by decide +kernel
theorem V.dX16_setLocals_96 : decode cX16_setLocals 96 = .ok (.aload 4, 2) := by decide +kernel
theorem V.dX16_setLocals_98 : decode cX16_setLocals 98 = .ok (.getfield 169, 3) := by decide +kernel
theorem V.dX16_setLocals_101 : decode cX16_setLocals 101 = .ok (.iload 7, 2) := by decide +kernel
theorem V.dX16_setLocals_103 : decode cX16_setLocals 103 = .ok (.iconst 2, 1) := by decide +kernel
theorem V.dX16_setLocals_104 : decode cX16_setLocals 104 = .ok (.iload 8, 2) := by decide +kernel
theorem V.dX16_setLocals_106 : decode cX16_setLocals 106 = .ok (.imul, 1) := by decide +kernel
theorem V.dX16_setLocals_107 : decode cX16_setLocals 107 = .ok (.iadd, 1) := by decide +kernel
theorem V.dX16_setLocals_108 : decode cX16_setLocals 108 = .ok (.iconst 1, 1) := by decide +kernel
theorem V.dX16_setLocals_109 : decode cX16_setLocals 109 = .ok (.iadd, 1) := by decide +kernel
theorem V.dX16_setLocals_110 : decode cX16_setLocals 110 = .ok (.invokevirtual 101, 3) := by decide +kernel
theorem V.dX16_setLocals_113 : decode cX16_setLocals 113 = .ok (.invokestatic 172, 3) := by decide +kernel
theorem V.dX16_setLocals_116 : decode cX16_setLocals 116 = .ok (.istore 10, 2) := by decide +kernel
theorem V.dX16_setLocals_118 : decode cX16_setLocals 118 = .ok (.iconst 0, 1) := by decide +kernel
theorem V.dX16_setLocals_119 : decode cX16_setLocals 119 = .ok (.istore 11, 2) := by decide +kernel
theorem V.dX16_setLocals_121 : decode cX16_setLocals 121 = .ok (.iload 11, 2) := by decide +kernel
theorem V.dX16_setLocals_123 : decode cX16_setLocals 123 = .ok (.iload 9, 2) := by decide +kernel
theorem V.dX16_setLocals_125 : decode cX16_setLocals 125 = .ok (.if_icmp .ge 31, 3) := by decide +kernel
theorem V.dX16_setLocals_128 : decode cX16_setLocals 128 = .ok (.aload_n 0, 1) := by decide +kernel
theorem V.dX16_setLocals_129 : decode cX16_setLocals 129 = .ok (.getfield 9, 3) := by decide +kernel
theorem V.dX16_setLocals_132 : decode cX16_setLocals 132 = .ok (.iload 6, 2) := by decide +kernel
theorem V.dX16_setLocals_134 : decode cX16_setLocals 134 = .ok (.iload 11, 2) := by decide +kernel
theorem V.dX16_setLocals_136 : decode cX16_setLocals 136 = .ok (.iadd, 1) := by decide +kernel
theorem V.dX16_setLocals_137 : decode cX16_setLocals 137 = .ok (.iload 10, 2) := by decide +kernel
theorem V.dX16_setLocals_139 : decode cX16_setLocals 139 = .ok (.ifCond .eq 9, 3) := by decide +kernel
theorem V.dX16_setLocals_142 : decode cX16_setLocals 142 = .ok (.ldc2_w 177, 3) := by decide +kernel
theorem V.dX16_setLocals_145 : decode cX16_setLocals 145 = .ok (.goto 4, 3) := by decide +kernel
theorem V.dX16_setLocals_148 : decode cX16_setLocals 148 = .ok (.lconst 0, 1) := by decide +kernel
theorem V.dX16_setLocals_149 : decode cX16_setLocals 149 = .ok (.lastore, 1) := by decide +kernel
theorem V.dX16_setLocals_150 : decode cX16_setLocals 150 = .ok (.iinc 11 1, 3) := by decide +kernel
theorem V.dX16_setLocals_153 : decode cX16_setLocals 153 = .ok (.goto (-32), 3) := by decide +kernel
theorem V.dX16_setLocals_156 : decode cX16_setLocals 156 = .ok (.iload 6, 2) := by decide +kernel
theorem V.dX16_setLocals_158 : decode cX16_setLocals 158 = .ok (.iload 9, 2) := by decide +kernel
theorem V.dX16_setLocals_160 : decode cX16_setLocals 160 = .ok (.iadd, 1) := by decide +kernel
theorem V.dX16_setLocals_161 : decode cX16_setLocals 161 = .ok (.istore 6, 2) := by decide +kernel
theorem V.dX16_setLocals_163 : decode cX16_setLocals 163 = .ok (.iinc 8 1, 3) := by decide +kernel
theorem V.dX16_setLocals_166 : decode cX16_setLocals 166 = .ok (.goto (-102), 3) := by decide +kernel
theorem V.dX16_setLocals_169 : decode cX16_setLocals 169 = .ok (.return_, 1) := by decide +kernel
theorem V.fdX16_54 : FD RX16 54 16 3 2 := ⟨(RX16, TX16, 26), tyX16, rfl, rfl, in_X16, by decide, Or.inl q1123, rfl⟩
theorem V.mdX16_154 : MD RX16 154 yX13_moduleOf cX13_moduleOf 2 (some (.object "ModuleEngine$Module")) 1 := ⟨Or.inl q2675, q373, q2203, by decide, by decide, by decide +kernel⟩
theorem V.fdX16_160 : FD RX16 160 13 1 2 := ⟨(RX13, TX13, 27), tyX13, rfl, rfl, in_X13, by decide, Or.inr ⟨_, q1016⟩, rfl⟩
theorem V.fdX16_163 : FD RX16 163 13 3 2 := ⟨(RX13, TX13, 27), tyX13, rfl, rfl, in_X13, by decide, Or.inr ⟨_, q1020⟩, rfl⟩
theorem V.mdX16_101 : MD RX16 101 yX3_at cX3_at 2 (some .int) 1 := ⟨Or.inl q2384, q363, q1411, by decide, by decide, by decide +kernel⟩
theorem V.fdX16_42 : FD RX16 42 16 0 2 := ⟨(RX16, TX16, 26), tyX16, rfl, rfl, in_X16, by decide, Or.inl q1120, rfl⟩
theorem V.mdX16_166 : MD RX16 166 yX6_parametersOf cX6_parametersOf 2 (some .int) 1 := ⟨Or.inl q2676, q366, q2679, by decide, by decide, by decide +kernel⟩
theorem V.fdX16_167 : FD RX16 167 2 11 2 := ⟨(RX2, TX2, 21), tyX2, rfl, rfl, in_X2, by decide, Or.inr ⟨_, q465⟩, rfl⟩
theorem V.fdX16_169 : FD RX16 169 2 12 2 := ⟨(RX2, TX2, 21), tyX2, rfl, rfl, in_X2, by decide, Or.inr ⟨_, q469⟩, rfl⟩
theorem V.mdX16_172 : MD RX16 172 yX11_isReference cX11_isReference 1 (some .boolean) 1 := ⟨Or.inl q2680, q371, q1803, by decide, by decide, by decide +kernel⟩
theorem V.fdX16_9 : FD RX16 9 16 4 2 := ⟨(RX16, TX16, 26), tyX16, rfl, rfl, in_X16, by decide, Or.inl q1124, rfl⟩
/-! ModuleEngine$Runner.setLocals(III)V -/
def V.Run_setLocals_p149 (rec64 : HS → Nat → Nat → Int32 → Int32 → Int32 → Int32 → Option (Unit × HS)) (rec121 : HS → Nat → Nat → Int32 → Int32 → Int32 → Int32 → Int32 → Int32 → Int32 → Option (Unit × HS)) (σ : HS) (x0 : Nat) (x4 : Nat) (x5 : Int32) (x6 : Int32) (x7 : Int32) (x8 : Int32) (x9 : Int32) (x10 : Int32) (x11 : Int32) (s0 : Int64) (s1 : Int32) (s2 : Nat) : Option (Unit × HS) :=
  ck (tg σ s2 = 101 ∧ inb s1 (ln σ s2)) <| bn (sJ σ s2 (ix s1) s0) fun σ1 =>
  bn (x11 + (1 : Int32)) fun y2 =>
  rec121 σ1 x0 x4 x5 x6 x7 x8 x9 x10 y2
theorem V.gX16_setLocals_p149 {X : CX} (rec64 : HS → Nat → Nat → Int32 → Int32 → Int32 → Int32 → Option (Unit × HS)) (hrec64 : ∀ (σ : HS) (x0 : Nat) (x4 : Nat) (x5 : Int32) (x6 : Int32) (x7 : Int32) (x8 : Int32), G X RX16 "setLocals" cX16_setLocals 12 none 2 42 enV 64 [(0, av x0), (4, av x4), (5, iv x5), (6, iv x6), (7, iv x7), (8, iv x8)] [] σ (rec64 σ x0 x4 x5 x6 x7 x8)) (rec121 : HS → Nat → Nat → Int32 → Int32 → Int32 → Int32 → Int32 → Int32 → Int32 → Option (Unit × HS)) (hrec121 : ∀ (σ : HS) (x0 : Nat) (x4 : Nat) (x5 : Int32) (x6 : Int32) (x7 : Int32) (x8 : Int32) (x9 : Int32) (x10 : Int32) (x11 : Int32), G X RX16 "setLocals" cX16_setLocals 12 none 2 42 enV 121 [(0, av x0), (4, av x4), (5, iv x5), (6, iv x6), (7, iv x7), (8, iv x8), (9, iv x9), (10, iv x10), (11, iv x11)] [] σ (rec121 σ x0 x4 x5 x6 x7 x8 x9 x10 x11)) (σ : HS) (x0 : Nat) (x4 : Nat) (x5 : Int32) (x6 : Int32) (x7 : Int32) (x8 : Int32) (x9 : Int32) (x10 : Int32) (x11 : Int32) (s0 : Int64) (s1 : Int32) (s2 : Nat) : G X RX16 "setLocals" cX16_setLocals 12 none 2 42 enV 149 [(0, av x0), (4, av x4), (5, iv x5), (6, iv x6), (7, iv x7), (8, iv x8), (9, iv x9), (10, iv x10), (11, iv x11)] [jv s0, iv s1, av s2] σ (Run_setLocals_p149 rec64 rec121 σ x0 x4 x5 x6 x7 x8 x9 x10 x11 s0 s1 s2) := by
  unfold Run_setLocals_p149
  refine g_lastore dX16_setLocals_149 (fun σ1 => ?_)
  refine g_iincB (w := 1) 8 dX16_setLocals_150 rfl (by decide) (by decide) (fun _ => rfl) (fun y2 => ?_)
  refine g_goto 121 dX16_setLocals_153 (by decide) ?_
  refine G.sub [1, 2, 3, 4, 5, 6, 7, 8, 0] rfl ?_
  exact hrec121 _ _ _ _ _ _ _ _ _ _
def V.Run_setLocals_p121 (rec64 : HS → Nat → Nat → Int32 → Int32 → Int32 → Int32 → Option (Unit × HS)) : Nat → HS → Nat → Nat → Int32 → Int32 → Int32 → Int32 → Int32 → Int32 → Int32 → Option (Unit × HS)
  | 0, _, _, _, _, _, _, _, _, _, _ => none
  | n + 1, σ, x0, x4, x5, x6, x7, x8, x9, x10, x11 =>
    if x9 ≤ x11 then (
      bn (x6 + x9) fun y1 =>
      bn (x8 + (1 : Int32)) fun y2 =>
      rec64 σ x0 x4 x5 y1 x7 y2)
    else (
      ck (tg σ x0 = 17) <|
      if x10 = 0 then (
        Run_setLocals_p149 rec64 (Run_setLocals_p121 rec64 n) σ x0 x4 x5 x6 x7 x8 x9 x10 x11 (0 : Int64) (x6 + x11) (gR σ x0 4))
      else (
        Run_setLocals_p149 rec64 (Run_setLocals_p121 rec64 n) σ x0 x4 x5 x6 x7 x8 x9 x10 x11 (-1 : Int64) (x6 + x11) (gR σ x0 4)))
theorem V.gX16_setLocals_p121 {X : CX} (rec64 : HS → Nat → Nat → Int32 → Int32 → Int32 → Int32 → Option (Unit × HS)) (hrec64 : ∀ (σ : HS) (x0 : Nat) (x4 : Nat) (x5 : Int32) (x6 : Int32) (x7 : Int32) (x8 : Int32), G X RX16 "setLocals" cX16_setLocals 12 none 2 42 enV 64 [(0, av x0), (4, av x4), (5, iv x5), (6, iv x6), (7, iv x7), (8, iv x8)] [] σ (rec64 σ x0 x4 x5 x6 x7 x8)) : ∀ (n : Nat) (σ : HS) (x0 : Nat) (x4 : Nat) (x5 : Int32) (x6 : Int32) (x7 : Int32) (x8 : Int32) (x9 : Int32) (x10 : Int32) (x11 : Int32), G X RX16 "setLocals" cX16_setLocals 12 none 2 42 enV 121 [(0, av x0), (4, av x4), (5, iv x5), (6, iv x6), (7, iv x7), (8, iv x8), (9, iv x9), (10, iv x10), (11, iv x11)] [] σ (Run_setLocals_p121 rec64 n σ x0 x4 x5 x6 x7 x8 x9 x10 x11)
  | 0, σ, x0, x4, x5, x6, x7, x8, x9, x10, x11 => by rw [Run_setLocals_p121]; exact G.nul
  | n + 1, σ, x0, x4, x5, x6, x7, x8, x9, x10, x11 => by
    rw [Run_setLocals_p121]
    refine g_iload 8 dX16_setLocals_121 rfl ?_
    refine g_iload 6 dX16_setLocals_123 rfl ?_
    refine g_icmp_ge 156 dX16_setLocals_125 (by decide) ?_ ?_
    · refine g_iload 3 dX16_setLocals_156 rfl ?_
      refine g_iload 6 dX16_setLocals_158 rfl ?_
      refine g_iadd dX16_setLocals_160 ?_
      refine g_nmI (fun y1 => ?_)
      refine g_istore dX16_setLocals_161 (by decide) rfl ?_
      refine g_iincB (w := 1) 5 dX16_setLocals_163 rfl (by decide) (by decide) (fun _ => rfl) (fun y2 => ?_)
      refine g_goto 64 dX16_setLocals_166 (by decide) ?_
      refine G.sub [2, 3, 4, 1, 5, 0] rfl ?_
      exact hrec64 _ _ _ _ _ _ _
    · refine g_aload_n 0 0 dX16_setLocals_128 rfl rfl ?_
      refine g_getR fdX16_9 dX16_setLocals_129 ?_
      refine g_iload 3 dX16_setLocals_132 rfl ?_
      refine g_iload 8 dX16_setLocals_134 rfl ?_
      refine g_iadd dX16_setLocals_136 ?_
      refine g_iload 7 dX16_setLocals_137 rfl ?_
      refine g_if_eq 148 dX16_setLocals_139 (by decide) ?_ ?_
      · refine g_lconst (v := 0) dX16_setLocals_148 (by decide) ?_
        exact gX16_setLocals_p149 rec64 hrec64 (Run_setLocals_p121 rec64 n) (gX16_setLocals_p121 rec64 hrec64 n) _ _ _ _ _ _ _ _ _ _ _ _ _
      · refine g_ldc2 q2681 dX16_setLocals_142 ?_
        refine g_goto 149 dX16_setLocals_145 (by decide) ?_
        exact gX16_setLocals_p149 rec64 hrec64 (Run_setLocals_p121 rec64 n) (gX16_setLocals_p121 rec64 hrec64 n) _ _ _ _ _ _ _ _ _ _ _ _ _
def V.Run_setLocals_p64  : Nat → HS → Nat → Nat → Int32 → Int32 → Int32 → Int32 → Option (Unit × HS)
  | 0, _, _, _, _, _, _, _ => none
  | n + 1, σ, x0, x4, x5, x6, x7, x8 =>
    ck (tg σ x4 = 3) <|
    ck (tg σ (gR σ x4 11) = 4) <| cl (Row_at σ (gR σ x4 11) x5) fun r2 σ1 =>
    if r2 ≤ x8 then (
      some ((), σ1))
    else (
      ck (tg σ1 x4 = 3) <|
      ck (tg σ1 (gR σ1 x4 12) = 4) <| cl (Row_at σ1 (gR σ1 x4 12) (x7 + ((2 : Int32) * x8))) fun r4 σ3 =>
      ck (tg σ3 x4 = 3) <|
      ck (tg σ3 (gR σ3 x4 12) = 4) <| cl (Row_at σ3 (gR σ3 x4 12) ((x7 + ((2 : Int32) * x8)) + (1 : Int32))) fun r6 σ5 =>
      cl (Chk_isReference σ5 r6) fun r8 σ7 =>
      Run_setLocals_p121 (Run_setLocals_p64 n) FU σ7 x0 x4 x5 x6 x7 x8 r4 r8 (0 : Int32))
theorem V.gX16_setLocals_p64 {X : CX}  : ∀ (n : Nat) (σ : HS) (x0 : Nat) (x4 : Nat) (x5 : Int32) (x6 : Int32) (x7 : Int32) (x8 : Int32), G X RX16 "setLocals" cX16_setLocals 12 none 2 42 enV 64 [(0, av x0), (4, av x4), (5, iv x5), (6, iv x6), (7, iv x7), (8, iv x8)] [] σ (Run_setLocals_p64 n σ x0 x4 x5 x6 x7 x8)
  | 0, σ, x0, x4, x5, x6, x7, x8 => by rw [Run_setLocals_p64]; exact G.nul
  | n + 1, σ, x0, x4, x5, x6, x7, x8 => by
    rw [Run_setLocals_p64]
    refine g_iload 5 dX16_setLocals_64 rfl ?_
    refine g_aload 1 dX16_setLocals_66 rfl ?_
    refine g_getR fdX16_167 dX16_setLocals_68 ?_
    refine g_iload 2 dX16_setLocals_71 rfl ?_
    refine g_callV (fc := fun sς => Row_at sς (gR σ x4 11) x5) (ci := 3) (as := [iv x5]) rfl rfl rfl q1409 q1410 mdX16_101 (ctX3_at (gR σ x4 11) x5) rfl (Nat.le_of_ble_eq_true rfl) (Nat.le_of_ble_eq_true rfl) (Nat.le_of_ble_eq_true rfl) pu_I dX16_setLocals_73 (fun r2 σ1 => ?_)
    refine g_icmp_ge 169 dX16_setLocals_76 (by decide) ?_ ?_
    · exact g_return rfl dX16_setLocals_169
    · refine g_aload 1 dX16_setLocals_79 rfl ?_
      refine g_getR fdX16_169 dX16_setLocals_81 ?_
      refine g_iload 4 dX16_setLocals_84 rfl ?_
      refine g_iconst (v := 2) dX16_setLocals_86 (by decide) ?_
      refine g_iload 5 dX16_setLocals_87 rfl ?_
      refine g_imul dX16_setLocals_89 ?_
      refine g_iadd dX16_setLocals_90 ?_
      refine g_callV (fc := fun sς => Row_at sς (gR σ1 x4 12) (x7 + ((2 : Int32) * x8))) (ci := 3) (as := [iv (x7 + ((2 : Int32) * x8))]) rfl rfl rfl q1409 q1410 mdX16_101 (ctX3_at (gR σ1 x4 12) (x7 + ((2 : Int32) * x8))) rfl (Nat.le_of_ble_eq_true rfl) (Nat.le_of_ble_eq_true rfl) (Nat.le_of_ble_eq_true rfl) pu_I dX16_setLocals_91 (fun r4 σ3 => ?_)
      refine g_istore dX16_setLocals_94 (by decide) rfl ?_
      refine g_aload 2 dX16_setLocals_96 rfl ?_
      refine g_getR fdX16_169 dX16_setLocals_98 ?_
      refine g_iload 5 dX16_setLocals_101 rfl ?_
      refine g_iconst (v := 2) dX16_setLocals_103 (by decide) ?_
      refine g_iload 6 dX16_setLocals_104 rfl ?_
      refine g_imul dX16_setLocals_106 ?_
      refine g_iadd dX16_setLocals_107 ?_
      refine g_iconst (v := 1) dX16_setLocals_108 (by decide) ?_
      refine g_iadd dX16_setLocals_109 ?_
      refine g_callV (fc := fun sς => Row_at sς (gR σ3 x4 12) ((x7 + ((2 : Int32) * x8)) + (1 : Int32))) (ci := 3) (as := [iv ((x7 + ((2 : Int32) * x8)) + (1 : Int32))]) rfl rfl rfl q1409 q1410 mdX16_101 (ctX3_at (gR σ3 x4 12) ((x7 + ((2 : Int32) * x8)) + (1 : Int32))) rfl (Nat.le_of_ble_eq_true rfl) (Nat.le_of_ble_eq_true rfl) (Nat.le_of_ble_eq_true rfl) pu_I dX16_setLocals_110 (fun r6 σ5 => ?_)
      refine g_callS (fc := fun sς => Chk_isReference sς r6) (as := [iv r6]) q1802 mdX16_172 (ctX11_isReference r6) rfl (Nat.le_of_ble_eq_true rfl) (Nat.le_of_ble_eq_true rfl) (Nat.le_of_ble_eq_true rfl) pu_I dX16_setLocals_113 (fun r8 σ7 => ?_)
      refine g_istore dX16_setLocals_116 (by decide) rfl ?_
      refine g_iconst (v := 0) dX16_setLocals_118 (by decide) ?_
      refine g_istore dX16_setLocals_119 (by decide) rfl ?_
      refine G.sub [3, 4, 5, 6, 7, 8, 2, 1, 0] rfl ?_
      exact gX16_setLocals_p121 (Run_setLocals_p64 n) (gX16_setLocals_p64 n) FU _ _ _ _ _ _ _ _ _ _
def V.Run_setLocals (σ : HS) (x0 : Nat) (x1 : Int32) (x2 : Int32) (x3 : Int32) : Option (Unit × HS) :=
  ck (tg σ x0 = 17) <|
  ck (tg σ (gR σ x0 3) = 14) <| cl (Sto_moduleOf σ (gR σ x0 3) x1) fun r2 σ1 =>
  ck (tg σ1 x0 = 17) <|
  ck (tg σ1 (gR σ1 x0 3) = 14) <|
  ck (tg σ1 x0 = 17) <|
  ck (tg σ1 (gR σ1 x0 3) = 14) <|
  ck (tg σ1 (gR σ1 (gR σ1 x0 3) 3) = 4) <| cl (Row_at σ1 (gR σ1 (gR σ1 x0 3) 3) x1) fun r4 σ3 =>
  ck (tg σ3 (gR σ1 (gR σ1 x0 3) 1) = 100 ∧ inb r4 (ln σ3 (gR σ1 (gR σ1 x0 3) 1))) <|
  bn ((5 : Int32) * (x2 - (gI σ3 (gR σ1 (gR σ1 x0 3) 1) (ix r4)))) fun y5 =>
  ck (tg σ3 x0 = 17) <|
  ck (tg σ3 (gR σ3 x0 0) = 7) <| cl (Flt_parametersOf σ3 (gR σ3 x0 0) x2) fun r7 σ6 =>
  bn (x3 + r7) fun y8 =>
  ck (tg σ6 r2 = 3) <|
  ck (tg σ6 (gR σ6 r2 11) = 4) <| cl (Row_at σ6 (gR σ6 r2 11) (y5 + (1 : Int32))) fun r10 σ9 =>
  Run_setLocals_p64 FU σ9 x0 r2 y5 y8 r10 (0 : Int32)
theorem V.ctX16_setLocals (x0 : Nat) (x1 : Int32) (x2 : Int32) (x3 : Int32) : Ct yX16_setLocals  cX16_setLocals 12 none 2 42 eV [av x0, iv x1, iv x2, iv x3] (fun σ => Run_setLocals σ x0 x1 x2 x3) := by
  refine Ct.of (own := RX16) (nm := "setLocals") (desc := "(III)V") rfl (by decide) (Nat.le_of_ble_eq_true rfl) (by decide) (fun X σ => ?_)
  show G X RX16 "setLocals" cX16_setLocals 12 none 2 42 enV 0 [(0, av x0), (1, iv x1), (2, iv x2), (3, iv x3)] [] σ (Run_setLocals σ x0 x1 x2 x3)
  unfold Run_setLocals
  refine g_aload_n 0 0 dX16_setLocals_0 rfl rfl ?_
  refine g_getR fdX16_54 dX16_setLocals_1 ?_
  refine g_iload_n 1 1 dX16_setLocals_4 rfl rfl ?_
  refine g_callV (fc := fun sς => Sto_moduleOf sς (gR σ x0 3) x1) (ci := 13) (as := [iv x1]) rfl rfl rfl q2201 q2202 mdX16_154 (ctX13_moduleOf (gR σ x0 3) x1) rfl (Nat.le_of_ble_eq_true rfl) (Nat.le_of_ble_eq_true rfl) (Nat.le_of_ble_eq_true rfl) pu_R dX16_setLocals_5 (fun r2 σ1 => ?_)
  refine g_astore dX16_setLocals_8 (by decide) rfl ?_
  refine g_iconst (v := 5) dX16_setLocals_10 (by decide) ?_
  refine g_iload_n 2 3 dX16_setLocals_11 rfl rfl ?_
  refine g_aload_n 0 1 dX16_setLocals_12 rfl rfl ?_
  refine g_getR fdX16_54 dX16_setLocals_13 ?_
  refine g_getR fdX16_160 dX16_setLocals_16 ?_
  refine g_aload_n 0 1 dX16_setLocals_19 rfl rfl ?_
  refine g_getR fdX16_54 dX16_setLocals_20 ?_
  refine g_getR fdX16_163 dX16_setLocals_23 ?_
  refine g_iload_n 1 2 dX16_setLocals_26 rfl rfl ?_
  refine g_callV (fc := fun sς => Row_at sς (gR σ1 (gR σ1 x0 3) 3) x1) (ci := 3) (as := [iv x1]) rfl rfl rfl q1409 q1410 mdX16_101 (ctX3_at (gR σ1 (gR σ1 x0 3) 3) x1) rfl (Nat.le_of_ble_eq_true rfl) (Nat.le_of_ble_eq_true rfl) (Nat.le_of_ble_eq_true rfl) pu_I dX16_setLocals_27 (fun r4 σ3 => ?_)
  refine g_iaload dX16_setLocals_30 ?_
  refine g_isub dX16_setLocals_31 ?_
  refine g_imul dX16_setLocals_32 ?_
  refine g_nmI (fun y5 => ?_)
  refine g_istore dX16_setLocals_33 (by decide) rfl ?_
  refine g_iload_n 3 5 dX16_setLocals_35 rfl rfl ?_
  refine g_aload_n 0 2 dX16_setLocals_36 rfl rfl ?_
  refine g_getR fdX16_42 dX16_setLocals_37 ?_
  refine g_iload_n 2 4 dX16_setLocals_40 rfl rfl ?_
  refine g_callV (fc := fun sς => Flt_parametersOf sς (gR σ3 x0 0) x2) (ci := 6) (as := [iv x2]) rfl rfl rfl q2677 q2678 mdX16_166 (ctX6_parametersOf (gR σ3 x0 0) x2) rfl (Nat.le_of_ble_eq_true rfl) (Nat.le_of_ble_eq_true rfl) (Nat.le_of_ble_eq_true rfl) pu_I dX16_setLocals_41 (fun r7 σ6 => ?_)
  refine g_iadd dX16_setLocals_44 ?_
  refine g_nmI (fun y8 => ?_)
  refine g_istore dX16_setLocals_45 (by decide) rfl ?_
  refine g_aload 2 dX16_setLocals_47 rfl ?_
  refine g_getR fdX16_167 dX16_setLocals_49 ?_
  refine g_iload 1 dX16_setLocals_52 rfl ?_
  refine g_iconst (v := 1) dX16_setLocals_54 (by decide) ?_
  refine g_iadd dX16_setLocals_55 ?_
  refine g_callV (fc := fun sς => Row_at sς (gR σ6 r2 11) (y5 + (1 : Int32))) (ci := 3) (as := [iv (y5 + (1 : Int32))]) rfl rfl rfl q1409 q1410 mdX16_101 (ctX3_at (gR σ6 r2 11) (y5 + (1 : Int32))) rfl (Nat.le_of_ble_eq_true rfl) (Nat.le_of_ble_eq_true rfl) (Nat.le_of_ble_eq_true rfl) pu_I dX16_setLocals_56 (fun r10 σ9 => ?_)
  refine g_istore dX16_setLocals_59 (by decide) rfl ?_
  refine g_iconst (v := 0) dX16_setLocals_61 (by decide) ?_
  refine g_istore dX16_setLocals_62 (by decide) rfl ?_
  refine G.sub [5, 4, 3, 2, 1, 0] rfl ?_
  exact gX16_setLocals_p64 FU _ _ _ _ _ _ _
theorem V.dX16_enter_0 : decode cX16_enter 0 = .ok (.aload_n 0, 1) := by decide +kernel
theorem V.dX16_enter_1 : decode cX16_enter 1 = .ok (.getfield 54, 3) := by decide +kernel
theorem V.dX16_enter_4 : decode cX16_enter 4 = .ok (.iload_n 1, 1) := by decide +kernel
theorem V.dX16_enter_5 : decode cX16_enter 5 = .ok (.invokevirtual 93, 3) := by decide +kernel
theorem V.dX16_enter_8 : decode cX16_enter 8 = .ok (.ifCond .eq 34, 3) := by decide +kernel
theorem V.dX16_enter_11 : decode cX16_enter 11 = .ok (.aload_n 0, 1) := by decide +kernel
theorem V.dX16_enter_12 : decode cX16_enter 12 = .ok (.iconst 5, 1) := by decide +kernel
theorem V.dX16_enter_13 : decode cX16_enter 13 = .ok (.putfield 58, 3) := by decide +kernel
theorem V.dX16_enter_16 : decode cX16_enter 16 = .ok (.aload_n 0, 1) := by decide +kernel
theorem V.dX16_enter_17 : decode cX16_enter 17 = .ok (.aload_n 0, 1) := by decide +kernel
theorem V.dX16_enter_18 : decode cX16_enter 18 = .ok (.getfield 54, 3) := by decide +kernel
theorem V.dX16_enter_21 : decode cX16_enter 21 = .ok (.getfield 97, 3) := by decide +kernel
theorem V.dX16_enter_24 : decode cX16_enter 24 = .ok (.iload_n 1, 1) := by decide +kernel
theorem V.dX16_enter_25 : decode cX16_enter 25 = .ok (.invokevirtual 101, 3) := by decide +kernel
theorem V.dX16_enter_28 : decode cX16_enter 28 = .ok (.putfield 35, 3) := by decide +kernel
theorem V.dX16_enter_31 : decode cX16_enter 31 = .ok (.aload_n 0, 1) := by decide +kernel
theorem V.dX16_enter_32 : decode cX16_enter 32 = .ok (.iload_n 1, 1) := by decide +kernel
theorem V.dX16_enter_33 : decode cX16_enter 33 = .ok (.putfield 106, 3) := by decide +kernel
theorem V.dX16_enter_36 : decode cX16_enter 36 = .ok (.aload_n 0, 1) := by decide +kernel
theorem V.dX16_enter_37 : decode cX16_enter 37 = .ok (.iload_n 2, 1) := by decide +kernel
theorem V.dX16_enter_38 : decode cX16_enter 38 = .ok (.putfield 109, 3) := by decide +kernel
theorem V.dX16_enter_41 : decode cX16_enter 41 = .ok (.return_, 1) := by decide +kernel
theorem V.dX16_enter_42 : decode cX16_enter 42 = .ok (.aload_n 0, 1) := by decide +kernel
theorem V.dX16_enter_43 : decode cX16_enter 43 = .ok (.getfield 54, 3) := by decide +kernel
theorem V.dX16_enter_46 : decode cX16_enter 46 = .ok (.getfield 97, 3) := by decide +kernel
theorem V.dX16_enter_49 : decode cX16_enter 49 = .ok (.iload_n 1, 1) := by decide +kernel
theorem V.dX16_enter_50 : decode cX16_enter 50 = .ok (.invokevirtual 101, 3) := by decide +kernel
theorem V.dX16_enter_53 : decode cX16_enter 53 = .ok (.istore 4, 2) := by decide +kernel
theorem V.dX16_enter_55 : decode cX16_enter 55 = .ok (.aload_n 0, 1) := by decide +kernel
theorem V.dX16_enter_56 : decode cX16_enter 56 = .ok (.getfield 67, 3) := by decide +kernel
theorem V.dX16_enter_59 : decode cX16_enter 59 = .ok (.sipush 200, 3) := by decide +kernel
theorem V.dX16_enter_62 : decode cX16_enter 62 = .ok (.if_icmp .eq 23, 3) := by decide +kernel
theorem V.dX16_enter_65 : decode cX16_enter 65 = .ok (.aload_n 0, 1) := by decide +kernel
theorem V.dX16_enter_66 : decode cX16_enter 66 = .ok (.getfield 70, 3) := by decide +kernel
theorem V.dX16_enter_69 : decode cX16_enter 69 = .ok (.aload_n 0, 1) := by decide +kernel
theorem V.dX16_enter_70 : decode cX16_enter 70 = .ok (.getfield 42, 3) := by decide +kernel
theorem V.dX16_enter_73 : decode cX16_enter 73 = .ok (.iload 4, 2) := by decide +kernel
theorem V.dX16_enter_75 : decode cX16_enter 75 = .ok (.invokevirtual 112, 3) := by decide +kernel
theorem V.dX16_enter_78 : decode cX16_enter 78 = .ok (.iadd, 1) := by decide +kernel
theorem V.dX16_enter_79 : decode cX16_enter 79 = .ok (.sipush 4096, 3) := by decide +kernel
theorem V.dX16_enter_82 : decode cX16_enter 82 = .ok (.if_icmp .le 9, 3) := by decide +kernel
theorem V.dX16_enter_85 : decode cX16_enter 85 = .ok (.aload_n 0, 1) := by decide +kernel
theorem V.dX16_enter_86 : decode cX16_enter 86 = .ok (.iconst 4, 1) := by decide +kernel
theorem V.dX16_enter_87 : decode cX16_enter 87 = .ok (.putfield 58, 3) := by decide +kernel
theorem V.dX16_enter_90 : decode cX16_enter 90 = .ok (.return_, 1) := by decide +kernel
theorem V.dX16_enter_91 : decode cX16_enter 91 = .ok (.aload_n 0, 1) := by decide +kernel
theorem V.dX16_enter_92 : decode cX16_enter 92 = .ok (.dup, 1) := by decide +kernel
theorem V.dX16_enter_93 : decode cX16_enter 93 = .ok (.getfield 70, 3) := by decide +kernel
theorem V.dX16_enter_96 : decode cX16_enter 96 = .ok (.aload_n 0, 1) := by decide +kernel
theorem V.dX16_enter_97 : decode cX16_enter 97 = .ok (.getfield 42, 3) := by decide +kernel
theorem V.dX16_enter_100 : decode cX16_enter 100 = .ok (.iload 4, 2) := by decide +kernel
theorem V.dX16_enter_102 : decode cX16_enter 102 = .ok (.invokevirtual 112, 3) := by decide +kernel
theorem V.dX16_enter_105 : decode cX16_enter 105 = .ok (.iadd, 1) := by decide +kernel
theorem V.dX16_enter_106 : decode cX16_enter 106 = .ok (.putfield 70, 3) := by decide +kernel
theorem V.dX16_enter_109 : decode cX16_enter 109 = .ok (.aload_n 0, 1) := by decide +kernel
theorem V.dX16_enter_110 : decode cX16_enter 110 = .ok (.getfield 29, 3) := by decide +kernel
theorem V.dX16_enter_113 : decode cX16_enter 113 = .ok (.iload_n 1, 1) := by decide +kernel
theorem V.dX16_enter_114 : decode cX16_enter 114 = .ok (.dup2, 1) := by decide +kernel
theorem V.dX16_enter_115 : decode cX16_enter 115 = .ok (.iaload, 1) := by decide +kernel
theorem V.dX16_enter_116 : decode cX16_enter 116 = .ok (.iconst 1, 1) := by decide +kernel
theorem V.dX16_enter_117 : decode cX16_enter 117 = .ok (.iadd, 1) := by decide +kernel
theorem V.dX16_enter_118 : decode cX16_enter 118 = .ok (.iastore, 1) := by decide +kernel
theorem V.dX16_enter_119 : decode cX16_enter 119 = .ok (.aload_n 0, 1) := by decide +kernel
theorem V.dX16_enter_120 : decode cX16_enter 120 = .ok (.getfield 117, 3) := by decide +kernel
theorem V.dX16_enter_123 : decode cX16_enter 123 = .ok (.ifCond .le 23, 3) := by decide +kernel
theorem V.dX16_enter_126 : decode cX16_enter 126 = .ok (.aload_n 0, 1) := by decide +kernel
theorem V.dX16_enter_127 : decode cX16_enter 127 = .ok (.getfield 29, 3) := by decide +kernel
theorem V.dX16_enter_130 : decode cX16_enter 130 = .ok (.iload_n 1, 1) := by decide +kernel
theorem V.dX16_enter_131 : decode cX16_enter 131 = .ok (.iaload, 1) := by decide +kernel
theorem V.dX16_enter_132 : decode cX16_enter 132 = .ok (.aload_n 0, 1) := by decide +kernel
theorem V.dX16_enter_133 : decode cX16_enter 133 = .ok (.getfield 117, 3) := by decide +kernel
theorem V.dX16_enter_136 : decode cX16_enter 136 = .ok (.if_icmp .lt 10, 3) := by decide +kernel
theorem V.dX16_enter_139 : decode cX16_enter 139 = .ok (.aload_n 0, 1) := by decide +kernel
theorem V.dX16_enter_140 : decode cX16_enter 140 = .ok (.iload_n 1, 1) := by decide +kernel
theorem V.dX16_enter_141 : decode cX16_enter 141 = .ok (.iload 4, 2) := by decide +kernel
theorem V.dX16_enter_143 : decode cX16_enter 143 = .ok (.invokevirtual 120, 3) := by decide +kernel
theorem V.dX16_enter_146 : decode cX16_enter 146 = .ok (.aload_n 0, 1) := by decide +kernel
theorem V.dX16_enter_147 : decode cX16_enter 147 = .ok (.iload_n 1, 1) := by decide +kernel
theorem V.dX16_enter_148 : decode cX16_enter 148 = .ok (.iload 4, 2) := by decide +kernel
theorem V.dX16_enter_150 : decode cX16_enter 150 = .ok (.iload_n 2, 1) := by decide +kernel
theorem V.dX16_enter_151 : decode cX16_enter 151 = .ok (.invokevirtual 124, 3) := by decide +kernel
theorem V.dX16_enter_154 : decode cX16_enter 154 = .ok (.aload_n 0, 1) := by decide +kernel
theorem V.dX16_enter_155 : decode cX16_enter 155 = .ok (.getfield 13, 3) := by decide +kernel
theorem V.dX16_enter_158 : decode cX16_enter 158 = .ok (.aload_n 0, 1) := by decide +kernel
theorem V.dX16_enter_159 : decode cX16_enter 159 = .ok (.getfield 67, 3) := by decide +kernel
theorem V.dX16_enter_162 : decode cX16_enter 162 = .ok (.iload_n 1, 1) := by decide +kernel
theorem V.dX16_enter_163 : decode cX16_enter 163 = .ok (.iastore, 1) := by decide +kernel
theorem V.dX16_enter_164 : decode cX16_enter 164 = .ok (.aload_n 0, 1) := by decide +kernel
theorem V.dX16_enter_165 : decode cX16_enter 165 = .ok (.getfield 17, 3) := by decide +kernel
theorem V.dX16_enter_168 : decode cX16_enter 168 = .ok (.aload_n 0, 1) := by decide +kernel
theorem V.dX16_enter_169 : decode cX16_enter 169 = .ok (.getfield 67, 3) := by decide +kernel
theorem V.dX16_enter_172 : decode cX16_enter 172 = .ok (.iload_n 2, 1) := by decide +kernel
theorem V.dX16_enter_173 : decode cX16_enter 173 = .ok (.iastore, 1) := by decide +kernel
theorem V.dX16_enter_174 : decode cX16_enter 174 = .ok (.aload_n 0, 1) := by decide +kernel
theorem V.dX16_enter_175 : decode cX16_enter 175 = .ok (.getfield 20, 3) := by decide +kernel
theorem V.dX16_enter_178 : decode cX16_enter 178 = .ok (.aload_n 0, 1) := by decide +kernel
theorem V.dX16_enter_179 : decode cX16_enter 179 = .ok (.getfield 67, 3) := by decide +kernel
theorem V.dX16_enter_182 : decode cX16_enter 182 = .ok (.iload_n 3, 1) := by decide +kernel
theorem V.dX16_enter_183 : decode cX16_enter 183 = .ok (.iastore, 1) := by decide +kernel
theorem V.dX16_enter_184 : decode cX16_enter 184 = .ok (.aload_n 0, 1) := by decide +kernel
theorem V.dX16_enter_185 : decode cX16_enter 185 = .ok (.getfield 23, 3) := by decide +kernel
theorem V.dX16_enter_188 : decode cX16_enter 188 = .ok (.aload_n 0, 1) := by decide +kernel
theorem V.dX16_enter_189 : decode cX16_enter 189 = .ok (.getfield 67, 3) := by decide +kernel
theorem V.dX16_enter_192 : decode cX16_enter 192 = .ok (.aload_n 0, 1) := by decide +kernel
theorem V.dX16_enter_193 : decode cX16_enter 193 = .ok (.getfield 32, 3) := by decide +kernel
theorem V.dX16_enter_196 : decode cX16_enter 196 = .ok (.iload_n 1, 1) := by decide +kernel
theorem V.dX16_enter_197 : decode cX16_enter 197 = .ok (.baload, 1) := by decide +kernel
theorem V.dX16_enter_198 : decode cX16_enter 198 = .ok (.ifCond .eq 19, 3) := by decide +kernel
theorem V.dX16_enter_201 : decode cX16_enter 201 = .ok (.aload_n 0, 1) := by decide +kernel
theorem V.dX16_enter_202 : decode cX16_enter 202 = .ok (.getfield 46, 3) := by decide +kernel
theorem V.dX16_enter_205 : decode cX16_enter 205 = .ok (.iload 4, 2) := by decide +kernel
theorem V.dX16_enter_207 : decode cX16_enter 207 = .ok (.invokevirtual 127, 3) := by decide +kernel
theorem V.dX16_enter_210 : decode cX16_enter 210 = .ok (.ifCond .eq 7, 3) := by decide +kernel
theorem V.dX16_enter_213 : decode cX16_enter 213 = .ok (.iconst 1, 1) := by decide +kernel
theorem V.dX16_enter_214 : decode cX16_enter 214 = .ok (.goto 4, 3) := by decide +kernel
theorem V.dX16_enter_217 : decode cX16_enter 217 = .ok (.iconst 0, 1) := by decide +kernel
theorem V.dX16_enter_218 : decode cX16_enter 218 = .ok (.bastore, 1) := by decide +kernel
theorem V.dX16_enter_219 : decode cX16_enter 219 = .ok (.aload_n 0, 1) := by decide +kernel
theorem V.dX16_enter_220 : decode cX16_enter 220 = .ok (.dup, 1) := by decide +kernel
theorem V.dX16_enter_221 : decode cX16_enter 221 = .ok (.getfield 67, 3) := by decide +kernel
theorem V.dX16_enter_224 : decode cX16_enter 224 = .ok (.iconst 1, 1) := by decide +kernel
theorem V.dX16_enter_225 : decode cX16_enter 225 = .ok (.iadd, 1) := by decide +kernel
theorem V.dX16_enter_226 : decode cX16_enter 226 = .ok (.putfield 67, 3) := by decide +kernel
theorem V.dX16_enter_229 : decode cX16_enter 229 = .ok (.aload_n 0, 1) := by decide +kernel
theorem V.dX16_enter_230 : decode cX16_enter 230 = .ok (.iload_n 2, 1) := by decide +kernel
theorem V.dX16_enter_231 : decode cX16_enter 231 = .ok (.aload_n 0, 1) := by decide +kernel
theorem V.dX16_enter_232 : decode cX16_enter 232 = .ok (.getfield 42, 3) := by decide +kernel
theorem V.dX16_enter_235 : decode cX16_enter 235 = .ok (.iload 4, 2) := by decide +kernel
theorem V.dX16_enter_237 : decode cX16_enter 237 = .ok (.invokevirtual 132, 3) := by decide +kernel
theorem V.dX16_enter_240 : decode cX16_enter 240 = .ok (.iadd, 1) := by decide +kernel
theorem V.dX16_enter_241 : decode cX16_enter 241 = .ok (.putfield 135, 3) := by decide +kernel
theorem V.dX16_enter_244 : decode cX16_enter 244 = .ok (.aload_n 0, 1) := by decide +kernel
theorem V.dX16_enter_245 : decode cX16_enter 245 = .ok (.aload_n 0, 1) := by decide +kernel
theorem V.dX16_enter_246 : decode cX16_enter 246 = .ok (.getfield 23, 3) := by decide +kernel
theorem V.dX16_enter_249 : decode cX16_enter 249 = .ok (.aload_n 0, 1) := by decide +kernel
theorem V.dX16_enter_250 : decode cX16_enter 250 = .ok (.getfield 67, 3) := by decide +kernel
theorem V.dX16_enter_253 : decode cX16_enter 253 = .ok (.iconst 1, 1) := by decide +kernel
theorem V.dX16_enter_254 : decode cX16_enter 254 = .ok (.isub, 1) := by decide +kernel
theorem V.dX16_enter_255 : decode cX16_enter 255 = .ok (.baload, 1) := by decide +kernel
theorem V.dX16_enter_256 : decode cX16_enter 256 = .ok (.ifCond .eq 15, 3) := by decide +kernel
theorem V.dX16_enter_259 : decode cX16_enter 259 = .ok (.aload_n 0, 1) := by decide +kernel
theorem V.dX16_enter_260 : decode cX16_enter 260 = .ok (.getfield 46, 3) := by decide +kernel
theorem V.dX16_enter_263 : decode cX16_enter 263 = .ok (.iload 4, 2) := by decide +kernel
theorem V.dX16_enter_265 : decode cX16_enter 265 = .ok (.invokevirtual 138, 3) := by decide +kernel
theorem V.dX16_enter_268 : decode cX16_enter 268 = .ok (.goto 15, 3) := by decide +kernel
theorem V.dX16_enter_271 : decode cX16_enter 271 = .ok (.aload_n 0, 1) := by decide +kernel
theorem V.dX16_enter_272 : decode cX16_enter 272 = .ok (.getfield 42, 3) := by decide +kernel
theorem V.dX16_enter_275 : decode cX16_enter 275 = .ok (.getfield 141, 3) := by decide +kernel
theorem V.dX16_enter_278 : decode cX16_enter 278 = .ok (.iload 4, 2) := by decide +kernel
theorem V.dX16_enter_280 : decode cX16_enter 280 = .ok (.invokevirtual 101, 3) := by decide +kernel
theorem V.dX16_enter_283 : decode cX16_enter 283 = .ok (.putfield 144, 3) := by decide +kernel
theorem V.dX16_enter_286 : decode cX16_enter 286 = .ok (.return_, 1) := by decide +kernel
theorem V.mdX16_93 : MD RX16 93 yX13_isHost cX13_isHost 2 (some .boolean) 1 := ⟨Or.inl q2380, q373, q2383, by decide, by decide, by decide +kernel⟩
theorem V.fdX16_97 : FD RX16 97 13 6 2 := ⟨(RX13, TX13, 27), tyX13, rfl, rfl, in_X13, by decide, Or.inr ⟨_, q1026⟩, rfl⟩
theorem V.fdX16_67 : FD RX16 67 16 13 0 := ⟨(RX16, TX16, 26), tyX16, rfl, rfl, in_X16, by decide, Or.inl q1136, rfl⟩
theorem V.fdX16_70 : FD RX16 70 16 14 0 := ⟨(RX16, TX16, 26), tyX16, rfl, rfl, in_X16, by decide, Or.inl q1138, rfl⟩
theorem V.mdX16_112 : MD RX16 112 yX6_asks cX6_asks 2 (some .int) 1 := ⟨Or.inl q2385, q366, q2388, by decide, by decide, by decide +kernel⟩
theorem V.fdX16_29 : FD RX16 29 16 9 2 := ⟨(RX16, TX16, 26), tyX16, rfl, rfl, in_X16, by decide, Or.inl q1130, rfl⟩
theorem V.fdX16_117 : FD RX16 117 16 12 0 := ⟨(RX16, TX16, 26), tyX16, rfl, rfl, in_X16, by decide, Or.inl q1134, rfl⟩
theorem V.mdX16_120 : MD RX16 120 yX16_changeOver cX16_changeOver 3 none 2 := ⟨Or.inl q2393, q376, q2396, by decide, by decide, by decide +kernel⟩
theorem V.fpX16_106 {nm : String} : FP RX16 nm 106 16 22 (.int) := ⟨(RX16, TX16, 26), tyX16, rfl, rfl, in_X16, by decide, tyX16_ok, nmX16, rfl, Or.inl ⟨rfl, Or.inl q1150⟩⟩
theorem V.fpX16_109 {nm : String} : FP RX16 nm 109 16 23 (.int) := ⟨(RX16, TX16, 26), tyX16, rfl, rfl, in_X16, by decide, tyX16_ok, nmX16, rfl, Or.inl ⟨rfl, Or.inl q1152⟩⟩
theorem V.mdX16_124 : MD RX16 124 yX16_setLocals cX16_setLocals 12 none 3 := ⟨Or.inl q2671, q376, q2674, by decide, by decide, by decide +kernel⟩
theorem V.fdX16_13 : FD RX16 13 16 5 2 := ⟨(RX16, TX16, 26), tyX16, rfl, rfl, in_X16, by decide, Or.inl q1126, rfl⟩
theorem V.fdX16_17 : FD RX16 17 16 6 2 := ⟨(RX16, TX16, 26), tyX16, rfl, rfl, in_X16, by decide, Or.inl q1127, rfl⟩
theorem V.fdX16_20 : FD RX16 20 16 7 2 := ⟨(RX16, TX16, 26), tyX16, rfl, rfl, in_X16, by decide, Or.inl q1128, rfl⟩
theorem V.fdX16_23 : FD RX16 23 16 8 2 := ⟨(RX16, TX16, 26), tyX16, rfl, rfl, in_X16, by decide, Or.inl q1129, rfl⟩
theorem V.mdX16_127 : MD RX16 127 yX7_has cX7_has 2 (some .boolean) 1 := ⟨Or.inl q2682, q367, q2685, by decide, by decide, by decide +kernel⟩
theorem V.mdX16_132 : MD RX16 132 yX6_localsOf cX6_localsOf 2 (some .int) 1 := ⟨Or.inl q2686, q366, q2392, by decide, by decide, by decide +kernel⟩
theorem V.fpX16_135 {nm : String} : FP RX16 nm 135 16 15 (.int) := ⟨(RX16, TX16, 26), tyX16, rfl, rfl, in_X16, by decide, tyX16_ok, nmX16, rfl, Or.inl ⟨rfl, Or.inl q1139⟩⟩
theorem V.fdX16_141 : FD RX16 141 6 3 2 := ⟨(RX6, TX6, 18), tyX6, rfl, rfl, in_X6, by decide, Or.inr ⟨_, q630⟩, rfl⟩
theorem V.mdX16_138 : MD RX16 138 yX7_startOf cX7_startOf 2 (some .int) 1 := ⟨Or.inl q2687, q367, q2690, by decide, by decide, by decide +kernel⟩
theorem V.fpX16_144 {nm : String} : FP RX16 nm 144 16 16 (.int) := ⟨(RX16, TX16, 26), tyX16, rfl, rfl, in_X16, by decide, tyX16_ok, nmX16, rfl, Or.inl ⟨rfl, Or.inl q1140⟩⟩
/-! ModuleEngine$Runner.enter(III)V -/
def V.Run_enter_p85  (σ : HS) (x0 : Nat) : Option (Unit × HS) :=
  ck (tg σ x0 = 17) <| bn (sI σ x0 18 (4 : Int32)) fun σ1 =>
  some ((), σ1)
theorem V.gX16_enter_p85 {X : CX}  (σ : HS) (x0 : Nat) : G X RX16 "enter" cX16_enter 5 none 13 344 enV 85 [(0, av x0)] [] σ (Run_enter_p85 σ x0) := by
  unfold Run_enter_p85
  refine g_aload_n 0 0 dX16_enter_85 rfl rfl ?_
  refine g_iconst (v := 4) dX16_enter_86 (by decide) ?_
  refine g_putI fpX16_58 dX16_enter_87 (fun σ1 => ?_)
  exact g_return rfl dX16_enter_90
def V.Run_enter_p283  (σ : HS) (s0 : Int32) (s1 : Nat) : Option (Unit × HS) :=
  ck (tg σ s1 = 17) <| bn (sI σ s1 16 s0) fun σ1 =>
  some ((), σ1)
theorem V.gX16_enter_p283 {X : CX}  (σ : HS) (s0 : Int32) (s1 : Nat) : G X RX16 "enter" cX16_enter 5 none 13 344 enV 283 [] [iv s0, av s1] σ (Run_enter_p283 σ s0 s1) := by
  unfold Run_enter_p283
  refine g_putI fpX16_144 dX16_enter_283 (fun σ1 => ?_)
  exact g_return rfl dX16_enter_286
def V.Run_enter_p218  (σ : HS) (x0 : Nat) (x2 : Int32) (x4 : Int32) (s0 : Int32) (s1 : Int32) (s2 : Nat) : Option (Unit × HS) :=
  ck (tg σ s2 = 103 ∧ inb s1 (ln σ s2) ∧ zb s0) <| bn (sI σ s2 (ix s1) s0) fun σ1 =>
  ck (tg σ1 x0 = 17) <|
  ck (tg σ1 x0 = 17) <| bn (sI σ1 x0 13 ((gI σ1 x0 13) + (1 : Int32))) fun σ2 =>
  ck (tg σ2 x0 = 17) <|
  ck (tg σ2 (gR σ2 x0 0) = 7) <| cl (Flt_localsOf σ2 (gR σ2 x0 0) x4) fun r4 σ3 =>
  ck (tg σ3 x0 = 17) <| bn (sI σ3 x0 15 (x2 + r4)) fun σ5 =>
  ck (tg σ5 x0 = 17) <|
  ck (tg σ5 x0 = 17) <|
  ck (tg σ5 (gR σ5 x0 8) = 103 ∧ inb ((gI σ5 x0 13) - (1 : Int32)) (ln σ5 (gR σ5 x0 8))) <|
  if (gI σ5 (gR σ5 x0 8) (ix ((gI σ5 x0 13) - (1 : Int32)))) = 0 then (
    ck (tg σ5 x0 = 17) <|
    ck (tg σ5 (gR σ5 x0 0) = 7) <|
    ck (tg σ5 (gR σ5 (gR σ5 x0 0) 3) = 4) <| cl (Row_at σ5 (gR σ5 (gR σ5 x0 0) 3) x4) fun r7 σ6 =>
    Run_enter_p283 σ6 r7 x0)
  else (
    ck (tg σ5 x0 = 17) <|
    ck (tg σ5 (gR σ5 x0 1) = 8) <| cl (Reg_startOf σ5 (gR σ5 x0 1) x4) fun r9 σ8 =>
    Run_enter_p283 σ8 r9 x0)
theorem V.gX16_enter_p218 {X : CX}  (σ : HS) (x0 : Nat) (x2 : Int32) (x4 : Int32) (s0 : Int32) (s1 : Int32) (s2 : Nat) : G X RX16 "enter" cX16_enter 5 none 13 344 enV 218 [(0, av x0), (2, iv x2), (4, iv x4)] [iv s0, iv s1, av s2] σ (Run_enter_p218 σ x0 x2 x4 s0 s1 s2) := by
  unfold Run_enter_p218
  refine g_zastore dX16_enter_218 (fun σ1 => ?_)
  refine g_aload_n 0 0 dX16_enter_219 rfl rfl ?_
  refine g_dup dX16_enter_220 rfl ?_
  refine g_getI fdX16_67 dX16_enter_221 ?_
  refine g_iconst (v := 1) dX16_enter_224 (by decide) ?_
  refine g_iadd dX16_enter_225 ?_
  refine g_putI fpX16_67 dX16_enter_226 (fun σ2 => ?_)
  refine g_aload_n 0 0 dX16_enter_229 rfl rfl ?_
  refine g_iload_n 2 1 dX16_enter_230 rfl rfl ?_
  refine g_aload_n 0 0 dX16_enter_231 rfl rfl ?_
  refine g_getR fdX16_42 dX16_enter_232 ?_
  refine g_iload 2 dX16_enter_235 rfl ?_
  refine g_callV (fc := fun sς => Flt_localsOf sς (gR σ2 x0 0) x4) (ci := 6) (as := [iv x4]) rfl rfl rfl q2390 q2391 mdX16_132 (ctX6_localsOf (gR σ2 x0 0) x4) rfl (Nat.le_of_ble_eq_true rfl) (Nat.le_of_ble_eq_true rfl) (Nat.le_of_ble_eq_true rfl) pu_I dX16_enter_237 (fun r4 σ3 => ?_)
  refine g_iadd dX16_enter_240 ?_
  refine g_putI fpX16_135 dX16_enter_241 (fun σ5 => ?_)
  refine g_aload_n 0 0 dX16_enter_244 rfl rfl ?_
  refine g_aload_n 0 0 dX16_enter_245 rfl rfl ?_
  refine g_getR fdX16_23 dX16_enter_246 ?_
  refine g_aload_n 0 0 dX16_enter_249 rfl rfl ?_
  refine g_getI fdX16_67 dX16_enter_250 ?_
  refine g_iconst (v := 1) dX16_enter_253 (by decide) ?_
  refine g_isub dX16_enter_254 ?_
  refine g_zaload dX16_enter_255 ?_
  refine g_if_eq 271 dX16_enter_256 (by decide) ?_ ?_
  · refine g_aload_n 0 0 dX16_enter_271 rfl rfl ?_
    refine g_getR fdX16_42 dX16_enter_272 ?_
    refine g_getR fdX16_141 dX16_enter_275 ?_
    refine g_iload 2 dX16_enter_278 rfl ?_
    refine g_callV (fc := fun sς => Row_at sς (gR σ5 (gR σ5 x0 0) 3) x4) (ci := 3) (as := [iv x4]) rfl rfl rfl q1409 q1410 mdX16_101 (ctX3_at (gR σ5 (gR σ5 x0 0) 3) x4) rfl (Nat.le_of_ble_eq_true rfl) (Nat.le_of_ble_eq_true rfl) (Nat.le_of_ble_eq_true rfl) pu_I dX16_enter_280 (fun r7 σ6 => ?_)
    refine G.sub [] rfl ?_
    exact gX16_enter_p283 _ _ _
  · refine g_aload_n 0 0 dX16_enter_259 rfl rfl ?_
    refine g_getR fdX16_46 dX16_enter_260 ?_
    refine g_iload 2 dX16_enter_263 rfl ?_
    refine g_callV (fc := fun sς => Reg_startOf sς (gR σ5 x0 1) x4) (ci := 7) (as := [iv x4]) rfl rfl rfl q2688 q2689 mdX16_138 (ctX7_startOf (gR σ5 x0 1) x4) rfl (Nat.le_of_ble_eq_true rfl) (Nat.le_of_ble_eq_true rfl) (Nat.le_of_ble_eq_true rfl) pu_I dX16_enter_265 (fun r9 σ8 => ?_)
    refine g_goto 283 dX16_enter_268 (by decide) ?_
    refine G.sub [] rfl ?_
    exact gX16_enter_p283 _ _ _
def V.Run_enter_p217  (σ : HS) (x0 : Nat) (x2 : Int32) (x4 : Int32) (s0 : Int32) (s1 : Nat) : Option (Unit × HS) :=
  Run_enter_p218 σ x0 x2 x4 (0 : Int32) s0 s1
theorem V.gX16_enter_p217 {X : CX}  (σ : HS) (x0 : Nat) (x2 : Int32) (x4 : Int32) (s0 : Int32) (s1 : Nat) : G X RX16 "enter" cX16_enter 5 none 13 344 enV 217 [(0, av x0), (2, iv x2), (4, iv x4)] [iv s0, av s1] σ (Run_enter_p217 σ x0 x2 x4 s0 s1) := by
  unfold Run_enter_p217
  refine g_iconst (v := 0) dX16_enter_217 (by decide) ?_
  exact gX16_enter_p218 _ _ _ _ _ _ _
def V.Run_enter_p146  (σ : HS) (x0 : Nat) (x1 : Int32) (x2 : Int32) (x3 : Int32) (x4 : Int32) : Option (Unit × HS) :=
  ck (tg σ x0 = 17) <| cl (Run_setLocals σ x0 x1 x4 x2) fun _ σ1 =>
  ck (tg σ1 x0 = 17) <|
  ck (tg σ1 x0 = 17) <|
  ck (tg σ1 (gR σ1 x0 5) = 100 ∧ inb (gI σ1 x0 13) (ln σ1 (gR σ1 x0 5))) <| bn (sI σ1 (gR σ1 x0 5) (ix (gI σ1 x0 13)) x1) fun σ2 =>
  ck (tg σ2 x0 = 17) <|
  ck (tg σ2 x0 = 17) <|
  ck (tg σ2 (gR σ2 x0 6) = 100 ∧ inb (gI σ2 x0 13) (ln σ2 (gR σ2 x0 6))) <| bn (sI σ2 (gR σ2 x0 6) (ix (gI σ2 x0 13)) x2) fun σ3 =>
  ck (tg σ3 x0 = 17) <|
  ck (tg σ3 x0 = 17) <|
  ck (tg σ3 (gR σ3 x0 7) = 100 ∧ inb (gI σ3 x0 13) (ln σ3 (gR σ3 x0 7))) <| bn (sI σ3 (gR σ3 x0 7) (ix (gI σ3 x0 13)) x3) fun σ4 =>
  ck (tg σ4 x0 = 17) <|
  ck (tg σ4 x0 = 17) <|
  ck (tg σ4 x0 = 17) <|
  ck (tg σ4 (gR σ4 x0 10) = 103 ∧ inb x1 (ln σ4 (gR σ4 x0 10))) <|
  if (gI σ4 (gR σ4 x0 10) (ix x1)) = 0 then (
    Run_enter_p217 σ4 x0 x2 x4 (gI σ4 x0 13) (gR σ4 x0 8))
  else (
    ck (tg σ4 x0 = 17) <|
    ck (tg σ4 (gR σ4 x0 1) = 8) <| cl (Reg_has σ4 (gR σ4 x0 1) x4) fun r6 σ5 =>
    if r6 = 0 then (
      Run_enter_p217 σ5 x0 x2 x4 (gI σ4 x0 13) (gR σ4 x0 8))
    else (
      Run_enter_p218 σ5 x0 x2 x4 (1 : Int32) (gI σ4 x0 13) (gR σ4 x0 8)))
theorem V.gX16_enter_p146 {X : CX}  (σ : HS) (x0 : Nat) (x1 : Int32) (x2 : Int32) (x3 : Int32) (x4 : Int32) : G X RX16 "enter" cX16_enter 5 none 13 344 enV 146 [(0, av x0), (1, iv x1), (2, iv x2), (3, iv x3), (4, iv x4)] [] σ (Run_enter_p146 σ x0 x1 x2 x3 x4) := by
  unfold Run_enter_p146
  refine g_aload_n 0 0 dX16_enter_146 rfl rfl ?_
  refine g_iload_n 1 1 dX16_enter_147 rfl rfl ?_
  refine g_iload 4 dX16_enter_148 rfl ?_
  refine g_iload_n 2 2 dX16_enter_150 rfl rfl ?_
  refine g_callV (fc := fun sς => Run_setLocals sς x0 x1 x4 x2) (ci := 16) (as := [iv x1, iv x4, iv x2]) rfl rfl rfl q2673 qs175 mdX16_124 (ctX16_setLocals x0 x1 x4 x2) rfl (Nat.le_of_ble_eq_true rfl) (Nat.le_of_ble_eq_true rfl) (Nat.le_of_ble_eq_true rfl) pu_V dX16_enter_151 (fun _ σ1 => ?_)
  refine g_aload_n 0 0 dX16_enter_154 rfl rfl ?_
  refine g_getR fdX16_13 dX16_enter_155 ?_
  refine g_aload_n 0 0 dX16_enter_158 rfl rfl ?_
  refine g_getI fdX16_67 dX16_enter_159 ?_
  refine g_iload_n 1 1 dX16_enter_162 rfl rfl ?_
  refine g_iastore dX16_enter_163 (fun σ2 => ?_)
  refine g_aload_n 0 0 dX16_enter_164 rfl rfl ?_
  refine g_getR fdX16_17 dX16_enter_165 ?_
  refine g_aload_n 0 0 dX16_enter_168 rfl rfl ?_
  refine g_getI fdX16_67 dX16_enter_169 ?_
  refine g_iload_n 2 2 dX16_enter_172 rfl rfl ?_
  refine g_iastore dX16_enter_173 (fun σ3 => ?_)
  refine g_aload_n 0 0 dX16_enter_174 rfl rfl ?_
  refine g_getR fdX16_20 dX16_enter_175 ?_
  refine g_aload_n 0 0 dX16_enter_178 rfl rfl ?_
  refine g_getI fdX16_67 dX16_enter_179 ?_
  refine g_iload_n 3 3 dX16_enter_182 rfl rfl ?_
  refine g_iastore dX16_enter_183 (fun σ4 => ?_)
  refine g_aload_n 0 0 dX16_enter_184 rfl rfl ?_
  refine g_getR fdX16_23 dX16_enter_185 ?_
  refine g_aload_n 0 0 dX16_enter_188 rfl rfl ?_
  refine g_getI fdX16_67 dX16_enter_189 ?_
  refine g_aload_n 0 0 dX16_enter_192 rfl rfl ?_
  refine g_getR fdX16_32 dX16_enter_193 ?_
  refine g_iload_n 1 1 dX16_enter_196 rfl rfl ?_
  refine g_zaload dX16_enter_197 ?_
  refine g_if_eq 217 dX16_enter_198 (by decide) ?_ ?_
  · refine G.sub [0, 2, 4] rfl ?_
    exact gX16_enter_p217 _ _ _ _ _ _
  · refine g_aload_n 0 0 dX16_enter_201 rfl rfl ?_
    refine g_getR fdX16_46 dX16_enter_202 ?_
    refine g_iload 4 dX16_enter_205 rfl ?_
    refine g_callV (fc := fun sς => Reg_has sς (gR σ4 x0 1) x4) (ci := 7) (as := [iv x4]) rfl rfl rfl q2683 q2684 mdX16_127 (ctX7_has (gR σ4 x0 1) x4) rfl (Nat.le_of_ble_eq_true rfl) (Nat.le_of_ble_eq_true rfl) (Nat.le_of_ble_eq_true rfl) pu_I dX16_enter_207 (fun r6 σ5 => ?_)
    refine g_if_eq 217 dX16_enter_210 (by decide) ?_ ?_
    · refine G.sub [0, 2, 4] rfl ?_
      exact gX16_enter_p217 _ _ _ _ _ _
    · refine g_iconst (v := 1) dX16_enter_213 (by decide) ?_
      refine g_goto 218 dX16_enter_214 (by decide) ?_
      refine G.sub [0, 2, 4] rfl ?_
      exact gX16_enter_p218 _ _ _ _ _ _ _
def V.Run_enter (σ : HS) (x0 : Nat) (x1 : Int32) (x2 : Int32) (x3 : Int32) : Option (Unit × HS) :=
  ck (tg σ x0 = 17) <|
  ck (tg σ (gR σ x0 3) = 14) <| cl (Sto_isHost σ (gR σ x0 3) x1) fun r2 σ1 =>
  if r2 = 0 then (
    ck (tg σ1 x0 = 17) <|
    ck (tg σ1 (gR σ1 x0 3) = 14) <|
    ck (tg σ1 (gR σ1 (gR σ1 x0 3) 6) = 4) <| cl (Row_at σ1 (gR σ1 (gR σ1 x0 3) 6) x1) fun r4 σ3 =>
    ck (tg σ3 x0 = 17) <|
    if (gI σ3 x0 13) = (200 : Int32) then (
      Run_enter_p85 σ3 x0)
    else (
      ck (tg σ3 x0 = 17) <|
      ck (tg σ3 x0 = 17) <|
      ck (tg σ3 (gR σ3 x0 0) = 7) <| cl (Flt_asks σ3 (gR σ3 x0 0) r4) fun r6 σ5 =>
      if ((gI σ3 x0 14) + r6) ≤ (4096 : Int32) then (
        ck (tg σ5 x0 = 17) <|
        ck (tg σ5 x0 = 17) <|
        ck (tg σ5 (gR σ5 x0 0) = 7) <| cl (Flt_asks σ5 (gR σ5 x0 0) r4) fun r8 σ7 =>
        ck (tg σ7 x0 = 17) <| bn (sI σ7 x0 14 ((gI σ5 x0 14) + r8)) fun σ9 =>
        ck (tg σ9 x0 = 17) <|
        ck (tg σ9 (gR σ9 x0 9) = 100 ∧ inb x1 (ln σ9 (gR σ9 x0 9))) <|
        ck (tg σ9 (gR σ9 x0 9) = 100 ∧ inb x1 (ln σ9 (gR σ9 x0 9))) <| bn (sI σ9 (gR σ9 x0 9) (ix x1) ((gI σ9 (gR σ9 x0 9) (ix x1)) + (1 : Int32))) fun σ10 =>
        ck (tg σ10 x0 = 17) <|
        if (gI σ10 x0 12) ≤ 0 then (
          Run_enter_p146 σ10 x0 x1 x2 x3 r4)
        else (
          ck (tg σ10 x0 = 17) <|
          ck (tg σ10 (gR σ10 x0 9) = 100 ∧ inb x1 (ln σ10 (gR σ10 x0 9))) <|
          ck (tg σ10 x0 = 17) <|
          if (gI σ10 (gR σ10 x0 9) (ix x1)) < (gI σ10 x0 12) then (
            Run_enter_p146 σ10 x0 x1 x2 x3 r4)
          else (
            ck (tg σ10 x0 = 17) <| cl (Run_changeOver σ10 x0 x1 r4) fun _ σ11 =>
            Run_enter_p146 σ11 x0 x1 x2 x3 r4)))
      else (
        Run_enter_p85 σ5 x0)))
  else (
    ck (tg σ1 x0 = 17) <| bn (sI σ1 x0 18 (5 : Int32)) fun σ12 =>
    ck (tg σ12 x0 = 17) <|
    ck (tg σ12 (gR σ12 x0 3) = 14) <|
    ck (tg σ12 (gR σ12 (gR σ12 x0 3) 6) = 4) <| cl (Row_at σ12 (gR σ12 (gR σ12 x0 3) 6) x1) fun r14 σ13 =>
    ck (tg σ13 x0 = 17) <| bn (sI σ13 x0 21 r14) fun σ15 =>
    ck (tg σ15 x0 = 17) <| bn (sI σ15 x0 22 x1) fun σ16 =>
    ck (tg σ16 x0 = 17) <| bn (sI σ16 x0 23 x2) fun σ17 =>
    some ((), σ17))
theorem V.ctX16_enter (x0 : Nat) (x1 : Int32) (x2 : Int32) (x3 : Int32) : Ct yX16_enter  cX16_enter 5 none 13 344 eV [av x0, iv x1, iv x2, iv x3] (fun σ => Run_enter σ x0 x1 x2 x3) := by
  refine Ct.of (own := RX16) (nm := "enter") (desc := "(III)V") rfl (by decide) (Nat.le_of_ble_eq_true rfl) (by decide) (fun X σ => ?_)
  show G X RX16 "enter" cX16_enter 5 none 13 344 enV 0 [(0, av x0), (1, iv x1), (2, iv x2), (3, iv x3)] [] σ (Run_enter σ x0 x1 x2 x3)
  unfold Run_enter
  refine g_aload_n 0 0 dX16_enter_0 rfl rfl ?_
  refine g_getR fdX16_54 dX16_enter_1 ?_
  refine g_iload_n 1 1 dX16_enter_4 rfl rfl ?_
  refine g_callV (fc := fun sς => Sto_isHost sς (gR σ x0 3) x1) (ci := 13) (as := [iv x1]) rfl rfl rfl q2381 q2382 mdX16_93 (ctX13_isHost (gR σ x0 3) x1) rfl (Nat.le_of_ble_eq_true rfl) (Nat.le_of_ble_eq_true rfl) (Nat.le_of_ble_eq_true rfl) pu_I dX16_enter_5 (fun r2 σ1 => ?_)
  refine g_if_eq 42 dX16_enter_8 (by decide) ?_ ?_
  · refine g_aload_n 0 0 dX16_enter_42 rfl rfl ?_
    refine g_getR fdX16_54 dX16_enter_43 ?_
    refine g_getR fdX16_97 dX16_enter_46 ?_
    refine g_iload_n 1 1 dX16_enter_49 rfl rfl ?_
    refine g_callV (fc := fun sς => Row_at sς (gR σ1 (gR σ1 x0 3) 6) x1) (ci := 3) (as := [iv x1]) rfl rfl rfl q1409 q1410 mdX16_101 (ctX3_at (gR σ1 (gR σ1 x0 3) 6) x1) rfl (Nat.le_of_ble_eq_true rfl) (Nat.le_of_ble_eq_true rfl) (Nat.le_of_ble_eq_true rfl) pu_I dX16_enter_50 (fun r4 σ3 => ?_)
    refine g_istore dX16_enter_53 (by decide) rfl ?_
    refine g_aload_n 0 1 dX16_enter_55 rfl rfl ?_
    refine g_getI fdX16_67 dX16_enter_56 ?_
    refine g_sipush (v := 200) dX16_enter_59 (by decide) ?_
    refine g_icmp_eq 85 dX16_enter_62 (by decide) ?_ ?_
    · refine G.sub [1] rfl ?_
      exact gX16_enter_p85 _ _
    · refine g_aload_n 0 1 dX16_enter_65 rfl rfl ?_
      refine g_getI fdX16_70 dX16_enter_66 ?_
      refine g_aload_n 0 1 dX16_enter_69 rfl rfl ?_
      refine g_getR fdX16_42 dX16_enter_70 ?_
      refine g_iload 0 dX16_enter_73 rfl ?_
      refine g_callV (fc := fun sς => Flt_asks sς (gR σ3 x0 0) r4) (ci := 6) (as := [iv r4]) rfl rfl rfl q2386 q2387 mdX16_112 (ctX6_asks (gR σ3 x0 0) r4) rfl (Nat.le_of_ble_eq_true rfl) (Nat.le_of_ble_eq_true rfl) (Nat.le_of_ble_eq_true rfl) pu_I dX16_enter_75 (fun r6 σ5 => ?_)
      refine g_iadd dX16_enter_78 ?_
      refine g_sipush (v := 4096) dX16_enter_79 (by decide) ?_
      refine g_icmp_le 91 dX16_enter_82 (by decide) ?_ ?_
      · refine g_aload_n 0 1 dX16_enter_91 rfl rfl ?_
        refine g_dup dX16_enter_92 rfl ?_
        refine g_getI fdX16_70 dX16_enter_93 ?_
        refine g_aload_n 0 1 dX16_enter_96 rfl rfl ?_
        refine g_getR fdX16_42 dX16_enter_97 ?_
        refine g_iload 0 dX16_enter_100 rfl ?_
        refine g_callV (fc := fun sς => Flt_asks sς (gR σ5 x0 0) r4) (ci := 6) (as := [iv r4]) rfl rfl rfl q2386 q2387 mdX16_112 (ctX6_asks (gR σ5 x0 0) r4) rfl (Nat.le_of_ble_eq_true rfl) (Nat.le_of_ble_eq_true rfl) (Nat.le_of_ble_eq_true rfl) pu_I dX16_enter_102 (fun r8 σ7 => ?_)
        refine g_iadd dX16_enter_105 ?_
        refine g_putI fpX16_70 dX16_enter_106 (fun σ9 => ?_)
        refine g_aload_n 0 1 dX16_enter_109 rfl rfl ?_
        refine g_getR fdX16_29 dX16_enter_110 ?_
        refine g_iload_n 1 2 dX16_enter_113 rfl rfl ?_
        refine g_dup2_11 dX16_enter_114 rfl rfl ?_
        refine g_iaload dX16_enter_115 ?_
        refine g_iconst (v := 1) dX16_enter_116 (by decide) ?_
        refine g_iadd dX16_enter_117 ?_
        refine g_iastore dX16_enter_118 (fun σ10 => ?_)
        refine g_aload_n 0 1 dX16_enter_119 rfl rfl ?_
        refine g_getI fdX16_117 dX16_enter_120 ?_
        refine g_if_le 146 dX16_enter_123 (by decide) ?_ ?_
        · refine G.sub [1, 2, 3, 4, 0] rfl ?_
          exact gX16_enter_p146 _ _ _ _ _ _
        · refine g_aload_n 0 1 dX16_enter_126 rfl rfl ?_
          refine g_getR fdX16_29 dX16_enter_127 ?_
          refine g_iload_n 1 2 dX16_enter_130 rfl rfl ?_
          refine g_iaload dX16_enter_131 ?_
          refine g_aload_n 0 1 dX16_enter_132 rfl rfl ?_
          refine g_getI fdX16_117 dX16_enter_133 ?_
          refine g_icmp_lt 146 dX16_enter_136 (by decide) ?_ ?_
          · refine G.sub [1, 2, 3, 4, 0] rfl ?_
            exact gX16_enter_p146 _ _ _ _ _ _
          · refine g_aload_n 0 1 dX16_enter_139 rfl rfl ?_
            refine g_iload_n 1 2 dX16_enter_140 rfl rfl ?_
            refine g_iload 0 dX16_enter_141 rfl ?_
            refine g_callV (fc := fun sς => Run_changeOver sς x0 x1 r4) (ci := 16) (as := [iv x1, iv r4]) rfl rfl rfl q2395 qs142 mdX16_120 (ctX16_changeOver x0 x1 r4) rfl (Nat.le_of_ble_eq_true rfl) (Nat.le_of_ble_eq_true rfl) (Nat.le_of_ble_eq_true rfl) pu_V dX16_enter_143 (fun _ σ11 => ?_)
            refine G.sub [1, 2, 3, 4, 0] rfl ?_
            exact gX16_enter_p146 _ _ _ _ _ _
      · refine G.sub [1] rfl ?_
        exact gX16_enter_p85 _ _
  · refine g_aload_n 0 0 dX16_enter_11 rfl rfl ?_
    refine g_iconst (v := 5) dX16_enter_12 (by decide) ?_
    refine g_putI fpX16_58 dX16_enter_13 (fun σ12 => ?_)
    refine g_aload_n 0 0 dX16_enter_16 rfl rfl ?_
    refine g_aload_n 0 0 dX16_enter_17 rfl rfl ?_
    refine g_getR fdX16_54 dX16_enter_18 ?_
    refine g_getR fdX16_97 dX16_enter_21 ?_
    refine g_iload_n 1 1 dX16_enter_24 rfl rfl ?_
    refine g_callV (fc := fun sς => Row_at sς (gR σ12 (gR σ12 x0 3) 6) x1) (ci := 3) (as := [iv x1]) rfl rfl rfl q1409 q1410 mdX16_101 (ctX3_at (gR σ12 (gR σ12 x0 3) 6) x1) rfl (Nat.le_of_ble_eq_true rfl) (Nat.le_of_ble_eq_true rfl) (Nat.le_of_ble_eq_true rfl) pu_I dX16_enter_25 (fun r14 σ13 => ?_)
    refine g_putI fpX16_35 dX16_enter_28 (fun σ15 => ?_)
    refine g_aload_n 0 0 dX16_enter_31 rfl rfl ?_
    refine g_iload_n 1 1 dX16_enter_32 rfl rfl ?_
    refine g_putI fpX16_106 dX16_enter_33 (fun σ16 => ?_)
    refine g_aload_n 0 0 dX16_enter_36 rfl rfl ?_
    refine g_iload_n 2 2 dX16_enter_37 rfl rfl ?_
    refine g_putI fpX16_109 dX16_enter_38 (fun σ17 => ?_)
    exact g_return rfl dX16_enter_41
theorem V.dX16_price_0 : decode cX16_price 0 = .ok (.aload_n 0, 1) := by decide +kernel
theorem V.dX16_price_1 : decode cX16_price 1 = .ok (.getfield 23, 3) := by decide +kernel
theorem V.dX16_price_4 : decode cX16_price 4 = .ok (.aload_n 0, 1) := by decide +kernel
theorem V.dX16_price_5 : decode cX16_price 5 = .ok (.getfield 67, 3) := by decide +kernel
theorem V.dX16_price_8 : decode cX16_price 8 = .ok (.iconst 1, 1) := by decide +kernel
theorem V.dX16_price_9 : decode cX16_price 9 = .ok (.isub, 1) := by decide +kernel
theorem V.dX16_price_10 : decode cX16_price 10 = .ok (.baload, 1) := by decide +kernel
theorem V.dX16_price_11 : decode cX16_price 11 = .ok (.ifCond .eq 21, 3) := by decide +kernel
theorem V.dX16_price_14 : decode cX16_price 14 = .ok (.aload_n 0, 1) := by decide +kernel
theorem V.dX16_price_15 : decode cX16_price 15 = .ok (.getfield 46, 3) := by decide +kernel
theorem V.dX16_price_18 : decode cX16_price 18 = .ok (.getfield 185, 3) := by decide +kernel
theorem V.dX16_price_21 : decode cX16_price 21 = .ok (.bipush 6, 2) := by decide +kernel
theorem V.dX16_price_23 : decode cX16_price 23 = .ok (.aload_n 0, 1) := by decide +kernel
theorem V.dX16_price_24 : decode cX16_price 24 = .ok (.getfield 144, 3) := by decide +kernel
theorem V.dX16_price_27 : decode cX16_price 27 = .ok (.imul, 1) := by decide +kernel
theorem V.dX16_price_28 : decode cX16_price 28 = .ok (.iconst 5, 1) := by decide +kernel
theorem V.dX16_price_29 : decode cX16_price 29 = .ok (.iadd, 1) := by decide +kernel
theorem V.dX16_price_30 : decode cX16_price 30 = .ok (.iaload, 1) := by decide +kernel
theorem V.dX16_price_31 : decode cX16_price 31 = .ok (.ireturn, 1) := by decide +kernel
theorem V.dX16_price_32 : decode cX16_price 32 = .ok (.aload_n 0, 1) := by decide +kernel
theorem V.dX16_price_33 : decode cX16_price 33 = .ok (.getfield 42, 3) := by decide +kernel
theorem V.dX16_price_36 : decode cX16_price 36 = .ok (.aload_n 0, 1) := by decide +kernel
theorem V.dX16_price_37 : decode cX16_price 37 = .ok (.getfield 144, 3) := by decide +kernel
theorem V.dX16_price_40 : decode cX16_price 40 = .ok (.invokevirtual 188, 3) := by decide +kernel
theorem V.dX16_price_43 : decode cX16_price 43 = .ok (.istore_n 1, 1) := by decide +kernel
theorem V.dX16_price_44 : decode cX16_price 44 = .ok (.iload_n 1, 1) := by decide +kernel
theorem V.dX16_price_45 : decode cX16_price 45 = .ok (.iconst 5, 1) := by decide +kernel
theorem V.dX16_price_46 : decode cX16_price 46 = .ok (.if_icmp .eq 9, 3) := by decide +kernel
theorem V.dX16_price_49 : decode cX16_price 49 = .ok (.iload_n 1, 1) := by decide +kernel
theorem V.dX16_price_50 : decode cX16_price 50 = .ok (.bipush 11, 2) := by decide +kernel
theorem V.dX16_price_52 : decode cX16_price 52 = .ok (.if_icmp .ne 7, 3) := by decide +kernel
theorem V.dX16_price_55 : decode cX16_price 55 = .ok (.iconst 0, 1) := by decide +kernel
theorem V.dX16_price_56 : decode cX16_price 56 = .ok (.goto 4, 3) := by decide +kernel
theorem V.dX16_price_59 : decode cX16_price 59 = .ok (.iconst 1, 1) := by decide +kernel
theorem V.dX16_price_60 : decode cX16_price 60 = .ok (.ireturn, 1) := by decide +kernel
theorem V.fdX16_144 : FD RX16 144 16 16 0 := ⟨(RX16, TX16, 26), tyX16, rfl, rfl, in_X16, by decide, Or.inl q1140, rfl⟩
theorem V.mdX16_188 : MD RX16 188 yX6_opAt cX6_opAt 2 (some .int) 1 := ⟨Or.inl q2699, q366, q2411, by decide, by decide, by decide +kernel⟩
theorem V.fdX16_185 : FD RX16 185 7 2 2 := ⟨(RX7, TX7, 17), tyX7, rfl, rfl, in_X7, by decide, Or.inr ⟨_, q694⟩, rfl⟩
/-! ModuleEngine$Runner.price()I -/
def V.Run_price_p55  (σ : HS)  : Option (Int32 × HS) :=
  some ((0 : Int32), σ)
theorem V.gX16_price_p55 {X : CX}  (σ : HS)  : G X RX16 "price" cX16_price 2 (some .int) 1 21 enI 55 [] [] σ (Run_price_p55 σ ) := by
  unfold Run_price_p55
  refine g_iconst (v := 0) dX16_price_55 (by decide) ?_
  refine g_goto 60 dX16_price_56 (by decide) ?_
  exact g_ireturn rfl dX16_price_60
def V.Run_price (σ : HS) (x0 : Nat) : Option (Int32 × HS) :=
  ck (tg σ x0 = 17) <|
  ck (tg σ x0 = 17) <|
  ck (tg σ (gR σ x0 8) = 103 ∧ inb ((gI σ x0 13) - (1 : Int32)) (ln σ (gR σ x0 8))) <|
  if (gI σ (gR σ x0 8) (ix ((gI σ x0 13) - (1 : Int32)))) = 0 then (
    ck (tg σ x0 = 17) <|
    ck (tg σ x0 = 17) <|
    ck (tg σ (gR σ x0 0) = 7) <| cl (Flt_opAt σ (gR σ x0 0) (gI σ x0 16)) fun r2 σ1 =>
    if r2 = (5 : Int32) then (
      Run_price_p55 σ1)
    else (
      if r2 = (11 : Int32) then (
        Run_price_p55 σ1)
      else (
        some ((1 : Int32), σ1))))
  else (
    ck (tg σ x0 = 17) <|
    ck (tg σ (gR σ x0 1) = 8) <|
    ck (tg σ x0 = 17) <|
    ck (tg σ (gR σ (gR σ x0 1) 2) = 100 ∧ inb (((6 : Int32) * (gI σ x0 16)) + (5 : Int32)) (ln σ (gR σ (gR σ x0 1) 2))) <|
    some (gI σ (gR σ (gR σ x0 1) 2) (ix (((6 : Int32) * (gI σ x0 16)) + (5 : Int32))), σ))
theorem V.ctX16_price (x0 : Nat) : Ct yX16_price  cX16_price 2 (some .int) 1 21 eI [av x0] (fun σ => Run_price σ x0) := by
  refine Ct.of (own := RX16) (nm := "price") (desc := "()I") rfl (by decide) (Nat.le_of_ble_eq_true rfl) (by decide) (fun X σ => ?_)
  show G X RX16 "price" cX16_price 2 (some .int) 1 21 enI 0 [(0, av x0)] [] σ (Run_price σ x0)
  unfold Run_price
  refine g_aload_n 0 0 dX16_price_0 rfl rfl ?_
  refine g_getR fdX16_23 dX16_price_1 ?_
  refine g_aload_n 0 0 dX16_price_4 rfl rfl ?_
  refine g_getI fdX16_67 dX16_price_5 ?_
  refine g_iconst (v := 1) dX16_price_8 (by decide) ?_
  refine g_isub dX16_price_9 ?_
  refine g_zaload dX16_price_10 ?_
  refine g_if_eq 32 dX16_price_11 (by decide) ?_ ?_
  · refine g_aload_n 0 0 dX16_price_32 rfl rfl ?_
    refine g_getR fdX16_42 dX16_price_33 ?_
    refine g_aload_n 0 0 dX16_price_36 rfl rfl ?_
    refine g_getI fdX16_144 dX16_price_37 ?_
    refine g_callV (fc := fun sς => Flt_opAt sς (gR σ x0 0) (gI σ x0 16)) (ci := 6) (as := [iv (gI σ x0 16)]) rfl rfl rfl q2409 q2410 mdX16_188 (ctX6_opAt (gR σ x0 0) (gI σ x0 16)) rfl (Nat.le_of_ble_eq_true rfl) (Nat.le_of_ble_eq_true rfl) (Nat.le_of_ble_eq_true rfl) pu_I dX16_price_40 (fun r2 σ1 => ?_)
    refine g_istore_n 1 dX16_price_43 rfl (by decide) rfl ?_
    refine g_iload_n 1 0 dX16_price_44 rfl rfl ?_
    refine g_iconst (v := 5) dX16_price_45 (by decide) ?_
    refine g_icmp_eq 55 dX16_price_46 (by decide) ?_ ?_
    · refine G.sub [] rfl ?_
      exact gX16_price_p55 _
    · refine g_iload_n 1 0 dX16_price_49 rfl rfl ?_
      refine g_bipush (v := 11) dX16_price_50 (by decide) ?_
      refine g_icmp_ne 59 dX16_price_52 (by decide) ?_ ?_
      · refine g_iconst (v := 1) dX16_price_59 (by decide) ?_
        exact g_ireturn rfl dX16_price_60
      · refine G.sub [] rfl ?_
        exact gX16_price_p55 _
  · refine g_aload_n 0 0 dX16_price_14 rfl rfl ?_
    refine g_getR fdX16_46 dX16_price_15 ?_
    refine g_getR fdX16_185 dX16_price_18 ?_
    refine g_bipush (v := 6) dX16_price_21 (by decide) ?_
    refine g_aload_n 0 0 dX16_price_23 rfl rfl ?_
    refine g_getI fdX16_144 dX16_price_24 ?_
    refine g_imul dX16_price_27 ?_
    refine g_iconst (v := 5) dX16_price_28 (by decide) ?_
    refine g_iadd dX16_price_29 ?_
    refine g_iaload dX16_price_30 ?_
    exact g_ireturn rfl dX16_price_31
theorem V.dX16_get_0 : decode cX16_get 0 = .ok (.iload_n 1, 1) := by decide +kernel
theorem V.dX16_get_1 : decode cX16_get 1 = .ok (.ifCond .ge 17, 3) := by decide +kernel
theorem V.dX16_get_4 : decode cX16_get 4 = .ok (.aload_n 0, 1) := by decide +kernel
theorem V.dX16_get_5 : decode cX16_get 5 = .ok (.getfield 46, 3) := by decide +kernel
theorem V.dX16_get_8 : decode cX16_get 8 = .ok (.getfield 393, 3) := by decide +kernel
theorem V.dX16_get_11 : decode cX16_get 11 = .ok (.iconst (-1), 1) := by decide +kernel
theorem V.dX16_get_12 : decode cX16_get 12 = .ok (.iload_n 1, 1) := by decide +kernel
theorem V.dX16_get_13 : decode cX16_get 13 = .ok (.isub, 1) := by decide +kernel
theorem V.dX16_get_14 : decode cX16_get 14 = .ok (.laload, 1) := by decide +kernel
theorem V.dX16_get_15 : decode cX16_get 15 = .ok (.goto 21, 3) := by decide +kernel
theorem V.dX16_get_18 : decode cX16_get 18 = .ok (.aload_n 0, 1) := by decide +kernel
theorem V.dX16_get_19 : decode cX16_get 19 = .ok (.getfield 9, 3) := by decide +kernel
theorem V.dX16_get_22 : decode cX16_get 22 = .ok (.aload_n 0, 1) := by decide +kernel
theorem V.dX16_get_23 : decode cX16_get 23 = .ok (.getfield 17, 3) := by decide +kernel
theorem V.dX16_get_26 : decode cX16_get 26 = .ok (.aload_n 0, 1) := by decide +kernel
theorem V.dX16_get_27 : decode cX16_get 27 = .ok (.getfield 67, 3) := by decide +kernel
theorem V.dX16_get_30 : decode cX16_get 30 = .ok (.iconst 1, 1) := by decide +kernel
theorem V.dX16_get_31 : decode cX16_get 31 = .ok (.isub, 1) := by decide +kernel
theorem V.dX16_get_32 : decode cX16_get 32 = .ok (.iaload, 1) := by decide +kernel
theorem V.dX16_get_33 : decode cX16_get 33 = .ok (.iload_n 1, 1) := by decide +kernel
theorem V.dX16_get_34 : decode cX16_get 34 = .ok (.iadd, 1) := by decide +kernel
theorem V.dX16_get_35 : decode cX16_get 35 = .ok (.laload, 1) := by decide +kernel
theorem V.dX16_get_36 : decode cX16_get 36 = .ok (.lreturn, 1) := by decide +kernel
theorem V.fdX16_393 : FD RX16 393 7 4 2 := ⟨(RX7, TX7, 17), tyX7, rfl, rfl, in_X7, by decide, Or.inr ⟨_, q697⟩, rfl⟩
/-! ModuleEngine$Runner.get(I)J -/
def V.Run_get (σ : HS) (x0 : Nat) (x1 : Int32) : Option (Int64 × HS) :=
  if 0 ≤ x1 then (
    ck (tg σ x0 = 17) <|
    ck (tg σ x0 = 17) <|
    ck (tg σ x0 = 17) <|
    ck (tg σ (gR σ x0 6) = 100 ∧ inb ((gI σ x0 13) - (1 : Int32)) (ln σ (gR σ x0 6))) <|
    ck (tg σ (gR σ x0 4) = 101 ∧ inb ((gI σ (gR σ x0 6) (ix ((gI σ x0 13) - (1 : Int32)))) + x1) (ln σ (gR σ x0 4))) <|
    some (gJ σ (gR σ x0 4) (ix ((gI σ (gR σ x0 6) (ix ((gI σ x0 13) - (1 : Int32)))) + x1)), σ))
  else (
    ck (tg σ x0 = 17) <|
    ck (tg σ (gR σ x0 1) = 8) <|
    ck (tg σ (gR σ (gR σ x0 1) 4) = 101 ∧ inb ((-1 : Int32) - x1) (ln σ (gR σ (gR σ x0 1) 4))) <|
    some (gJ σ (gR σ (gR σ x0 1) 4) (ix ((-1 : Int32) - x1)), σ))
theorem V.ctX16_get (x0 : Nat) (x1 : Int32) : Ct yX16_get  cX16_get 2 (some .long) 0 0 eJ [av x0, iv x1] (fun σ => Run_get σ x0 x1) := by
  refine Ct.of (own := RX16) (nm := "get") (desc := "(I)J") rfl (by decide) (Nat.le_of_ble_eq_true rfl) (by decide) (fun X σ => ?_)
  show G X RX16 "get" cX16_get 2 (some .long) 0 0 enJ 0 [(0, av x0), (1, iv x1)] [] σ (Run_get σ x0 x1)
  unfold Run_get
  refine g_iload_n 1 1 dX16_get_0 rfl rfl ?_
  refine g_if_ge 18 dX16_get_1 (by decide) ?_ ?_
  · refine g_aload_n 0 0 dX16_get_18 rfl rfl ?_
    refine g_getR fdX16_9 dX16_get_19 ?_
    refine g_aload_n 0 0 dX16_get_22 rfl rfl ?_
    refine g_getR fdX16_17 dX16_get_23 ?_
    refine g_aload_n 0 0 dX16_get_26 rfl rfl ?_
    refine g_getI fdX16_67 dX16_get_27 ?_
    refine g_iconst (v := 1) dX16_get_30 (by decide) ?_
    refine g_isub dX16_get_31 ?_
    refine g_iaload dX16_get_32 ?_
    refine g_iload_n 1 1 dX16_get_33 rfl rfl ?_
    refine g_iadd dX16_get_34 ?_
    refine g_laload dX16_get_35 ?_
    exact g_lreturn rfl dX16_get_36
  · refine g_aload_n 0 0 dX16_get_4 rfl rfl ?_
    refine g_getR fdX16_46 dX16_get_5 ?_
    refine g_getR fdX16_393 dX16_get_8 ?_
    refine g_iconst (v := (-1)) dX16_get_11 (by decide) ?_
    refine g_iload_n 1 1 dX16_get_12 rfl rfl ?_
    refine g_isub dX16_get_13 ?_
    refine g_laload dX16_get_14 ?_
    refine g_goto 36 dX16_get_15 (by decide) ?_
    exact g_lreturn rfl dX16_get_36
theorem V.dX16_set_0 : decode cX16_set 0 = .ok (.aload_n 0, 1) := by decide +kernel
theorem V.dX16_set_1 : decode cX16_set 1 = .ok (.getfield 9, 3) := by decide +kernel
theorem V.dX16_set_4 : decode cX16_set 4 = .ok (.aload_n 0, 1) := by decide +kernel
theorem V.dX16_set_5 : decode cX16_set 5 = .ok (.getfield 17, 3) := by decide +kernel
theorem V.dX16_set_8 : decode cX16_set 8 = .ok (.aload_n 0, 1) := by decide +kernel
theorem V.dX16_set_9 : decode cX16_set 9 = .ok (.getfield 67, 3) := by decide +kernel
theorem V.dX16_set_12 : decode cX16_set 12 = .ok (.iconst 1, 1) := by decide +kernel
theorem V.dX16_set_13 : decode cX16_set 13 = .ok (.isub, 1) := by decide +kernel
theorem V.dX16_set_14 : decode cX16_set 14 = .ok (.iaload, 1) := by decide +kernel
theorem V.dX16_set_15 : decode cX16_set 15 = .ok (.iload_n 1, 1) := by decide +kernel
theorem V.dX16_set_16 : decode cX16_set 16 = .ok (.iadd, 1) := by decide +kernel
theorem V.dX16_set_17 : decode cX16_set 17 = .ok (.lload_n 2, 1) := by decide +kernel
theorem V.dX16_set_18 : decode cX16_set 18 = .ok (.lastore, 1) := by decide +kernel
theorem V.dX16_set_19 : decode cX16_set 19 = .ok (.return_, 1) := by decide +kernel
/-! ModuleEngine$Runner.set(IJ)V -/
def V.Run_set (σ : HS) (x0 : Nat) (x1 : Int32) (x2 : Int64) : Option (Unit × HS) :=
  ck (tg σ x0 = 17) <|
  ck (tg σ x0 = 17) <|
  ck (tg σ x0 = 17) <|
  ck (tg σ (gR σ x0 6) = 100 ∧ inb ((gI σ x0 13) - (1 : Int32)) (ln σ (gR σ x0 6))) <|
  ck (tg σ (gR σ x0 4) = 101 ∧ inb ((gI σ (gR σ x0 6) (ix ((gI σ x0 13) - (1 : Int32)))) + x1) (ln σ (gR σ x0 4))) <| bn (sJ σ (gR σ x0 4) (ix ((gI σ (gR σ x0 6) (ix ((gI σ x0 13) - (1 : Int32)))) + x1)) x2) fun σ1 =>
  some ((), σ1)
theorem V.ctX16_set (x0 : Nat) (x1 : Int32) (x2 : Int64) : Ct yX16_set  cX16_set 4 none 0 0 eV [av x0, iv x1, jv x2] (fun σ => Run_set σ x0 x1 x2) := by
  refine Ct.of (own := RX16) (nm := "set") (desc := "(IJ)V") rfl (by decide) (Nat.le_of_ble_eq_true rfl) (by decide) (fun X σ => ?_)
  show G X RX16 "set" cX16_set 4 none 0 0 enV 0 [(0, av x0), (1, iv x1), (2, jv x2)] [] σ (Run_set σ x0 x1 x2)
  unfold Run_set
  refine g_aload_n 0 0 dX16_set_0 rfl rfl ?_
  refine g_getR fdX16_9 dX16_set_1 ?_
  refine g_aload_n 0 0 dX16_set_4 rfl rfl ?_
  refine g_getR fdX16_17 dX16_set_5 ?_
  refine g_aload_n 0 0 dX16_set_8 rfl rfl ?_
  refine g_getI fdX16_67 dX16_set_9 ?_
  refine g_iconst (v := 1) dX16_set_12 (by decide) ?_
  refine g_isub dX16_set_13 ?_
  refine g_iaload dX16_set_14 ?_
  refine g_iload_n 1 1 dX16_set_15 rfl rfl ?_
  refine g_iadd dX16_set_16 ?_
  refine g_lload_n 2 2 dX16_set_17 rfl rfl ?_
  refine g_lastore dX16_set_18 (fun σ1 => ?_)
  exact g_return rfl dX16_set_19
theorem V.dX16_end_0 : decode cX16_end 0 = .ok (.aload_n 0, 1) := by decide +kernel
theorem V.dX16_end_1 : decode cX16_end 1 = .ok (.iconst 2, 1) := by decide +kernel
theorem V.dX16_end_2 : decode cX16_end 2 = .ok (.putfield 58, 3) := by decide +kernel
theorem V.dX16_end_5 : decode cX16_end 5 = .ok (.aload_n 0, 1) := by decide +kernel
theorem V.dX16_end_6 : decode cX16_end 6 = .ok (.iload_n 1, 1) := by decide +kernel
theorem V.dX16_end_7 : decode cX16_end 7 = .ok (.putfield 73, 3) := by decide +kernel
theorem V.dX16_end_10 : decode cX16_end 10 = .ok (.iconst 0, 1) := by decide +kernel
theorem V.dX16_end_11 : decode cX16_end 11 = .ok (.istore_n 2, 1) := by decide +kernel
theorem V.dX16_end_12 : decode cX16_end 12 = .ok (.iload_n 2, 1) := by decide +kernel
theorem V.dX16_end_13 : decode cX16_end 13 = .ok (.iload_n 1, 1) := by decide +kernel
theorem V.dX16_end_14 : decode cX16_end 14 = .ok (.if_icmp .ge 21, 3) := by decide +kernel
theorem V.dX16_end_17 : decode cX16_end 17 = .ok (.aload_n 0, 1) := by decide +kernel
theorem V.dX16_end_18 : decode cX16_end 18 = .ok (.getfield 39, 3) := by decide +kernel
theorem V.dX16_end_21 : decode cX16_end 21 = .ok (.iload_n 2, 1) := by decide +kernel
theorem V.dX16_end_22 : decode cX16_end 22 = .ok (.aload_n 0, 1) := by decide +kernel
theorem V.dX16_end_23 : decode cX16_end 23 = .ok (.getfield 9, 3) := by decide +kernel
theorem V.dX16_end_26 : decode cX16_end 26 = .ok (.iload_n 2, 1) := by decide +kernel
theorem V.dX16_end_27 : decode cX16_end 27 = .ok (.laload, 1) := by decide +kernel
theorem V.dX16_end_28 : decode cX16_end 28 = .ok (.lastore, 1) := by decide +kernel
theorem V.dX16_end_29 : decode cX16_end 29 = .ok (.iinc 2 1, 3) := by decide +kernel
theorem V.dX16_end_32 : decode cX16_end 32 = .ok (.goto (-20), 3) := by decide +kernel
theorem V.dX16_end_35 : decode cX16_end 35 = .ok (.return_, 1) := by decide +kernel
theorem V.fdX16_39 : FD RX16 39 16 24 2 := ⟨(RX16, TX16, 26), tyX16, rfl, rfl, in_X16, by decide, Or.inl q1154, rfl⟩
/-! ModuleEngine$Runner.end(I)V -/
def V.Run_end_p12  : Nat → HS → Nat → Int32 → Int32 → Option (Unit × HS)
  | 0, _, _, _, _ => none
  | n + 1, σ, x0, x1, x2 =>
    if x1 ≤ x2 then (
      some ((), σ))
    else (
      ck (tg σ x0 = 17) <|
      ck (tg σ x0 = 17) <|
      ck (tg σ (gR σ x0 4) = 101 ∧ inb x2 (ln σ (gR σ x0 4))) <|
      ck (tg σ (gR σ x0 24) = 101 ∧ inb x2 (ln σ (gR σ x0 24))) <| bn (sJ σ (gR σ x0 24) (ix x2) (gJ σ (gR σ x0 4) (ix x2))) fun σ1 =>
      bn (x2 + (1 : Int32)) fun y2 =>
      Run_end_p12 n σ1 x0 x1 y2)
theorem V.gX16_end_p12 {X : CX}  : ∀ (n : Nat) (σ : HS) (x0 : Nat) (x1 : Int32) (x2 : Int32), G X RX16 "end" cX16_end 3 none 0 0 enV 12 [(0, av x0), (1, iv x1), (2, iv x2)] [] σ (Run_end_p12 n σ x0 x1 x2)
  | 0, σ, x0, x1, x2 => by rw [Run_end_p12]; exact G.nul
  | n + 1, σ, x0, x1, x2 => by
    rw [Run_end_p12]
    refine g_iload_n 2 2 dX16_end_12 rfl rfl ?_
    refine g_iload_n 1 1 dX16_end_13 rfl rfl ?_
    refine g_icmp_ge 35 dX16_end_14 (by decide) ?_ ?_
    · exact g_return rfl dX16_end_35
    · refine g_aload_n 0 0 dX16_end_17 rfl rfl ?_
      refine g_getR fdX16_39 dX16_end_18 ?_
      refine g_iload_n 2 2 dX16_end_21 rfl rfl ?_
      refine g_aload_n 0 0 dX16_end_22 rfl rfl ?_
      refine g_getR fdX16_9 dX16_end_23 ?_
      refine g_iload_n 2 2 dX16_end_26 rfl rfl ?_
      refine g_laload dX16_end_27 ?_
      refine g_lastore dX16_end_28 (fun σ1 => ?_)
      refine g_iincB (w := 1) 2 dX16_end_29 rfl (by decide) (by decide) (fun _ => rfl) (fun y2 => ?_)
      refine g_goto 12 dX16_end_32 (by decide) ?_
      refine G.sub [1, 2, 0] rfl ?_
      exact gX16_end_p12 n _ _ _ _
def V.Run_end (σ : HS) (x0 : Nat) (x1 : Int32) : Option (Unit × HS) :=
  ck (tg σ x0 = 17) <| bn (sI σ x0 18 (2 : Int32)) fun σ1 =>
  ck (tg σ1 x0 = 17) <| bn (sI σ1 x0 25 x1) fun σ2 =>
  Run_end_p12 FU σ2 x0 x1 (0 : Int32)
theorem V.ctX16_end (x0 : Nat) (x1 : Int32) : Ct yX16_end  cX16_end 3 none 0 0 eV [av x0, iv x1] (fun σ => Run_end σ x0 x1) := by
  refine Ct.of (own := RX16) (nm := "end") (desc := "(I)V") rfl (by decide) (Nat.le_of_ble_eq_true rfl) (by decide) (fun X σ => ?_)
  show G X RX16 "end" cX16_end 3 none 0 0 enV 0 [(0, av x0), (1, iv x1)] [] σ (Run_end σ x0 x1)
  unfold Run_end
  refine g_aload_n 0 0 dX16_end_0 rfl rfl ?_
  refine g_iconst (v := 2) dX16_end_1 (by decide) ?_
  refine g_putI fpX16_58 dX16_end_2 (fun σ1 => ?_)
  refine g_aload_n 0 0 dX16_end_5 rfl rfl ?_
  refine g_iload_n 1 1 dX16_end_6 rfl rfl ?_
  refine g_putI fpX16_73 dX16_end_7 (fun σ2 => ?_)
  refine g_iconst (v := 0) dX16_end_10 (by decide) ?_
  refine g_istore_n 2 dX16_end_11 rfl (by decide) rfl ?_
  refine G.sub [1, 2, 0] rfl ?_
  exact gX16_end_p12 FU _ _ _ _
theorem V.dX16_leave_0 : decode cX16_leave 0 = .ok (.aload_n 0, 1) := by decide +kernel
theorem V.dX16_leave_1 : decode cX16_leave 1 = .ok (.dup, 1) := by decide +kernel
theorem V.dX16_leave_2 : decode cX16_leave 2 = .ok (.getfield 67, 3) := by decide +kernel
theorem V.dX16_leave_5 : decode cX16_leave 5 = .ok (.iconst 1, 1) := by decide +kernel
theorem V.dX16_leave_6 : decode cX16_leave 6 = .ok (.isub, 1) := by decide +kernel
theorem V.dX16_leave_7 : decode cX16_leave 7 = .ok (.putfield 67, 3) := by decide +kernel
theorem V.dX16_leave_10 : decode cX16_leave 10 = .ok (.aload_n 0, 1) := by decide +kernel
theorem V.dX16_leave_11 : decode cX16_leave 11 = .ok (.dup, 1) := by decide +kernel
theorem V.dX16_leave_12 : decode cX16_leave 12 = .ok (.getfield 70, 3) := by decide +kernel
theorem V.dX16_leave_15 : decode cX16_leave 15 = .ok (.aload_n 0, 1) := by decide +kernel
theorem V.dX16_leave_16 : decode cX16_leave 16 = .ok (.getfield 42, 3) := by decide +kernel
theorem V.dX16_leave_19 : decode cX16_leave 19 = .ok (.aload_n 0, 1) := by decide +kernel
theorem V.dX16_leave_20 : decode cX16_leave 20 = .ok (.getfield 54, 3) := by decide +kernel
theorem V.dX16_leave_23 : decode cX16_leave 23 = .ok (.getfield 97, 3) := by decide +kernel
theorem V.dX16_leave_26 : decode cX16_leave 26 = .ok (.aload_n 0, 1) := by decide +kernel
theorem V.dX16_leave_27 : decode cX16_leave 27 = .ok (.getfield 13, 3) := by decide +kernel
theorem V.dX16_leave_30 : decode cX16_leave 30 = .ok (.aload_n 0, 1) := by decide +kernel
theorem V.dX16_leave_31 : decode cX16_leave 31 = .ok (.getfield 67, 3) := by decide +kernel
theorem V.dX16_leave_34 : decode cX16_leave 34 = .ok (.iaload, 1) := by decide +kernel
theorem V.dX16_leave_35 : decode cX16_leave 35 = .ok (.invokevirtual 101, 3) := by decide +kernel
theorem V.dX16_leave_38 : decode cX16_leave 38 = .ok (.invokevirtual 112, 3) := by decide +kernel
theorem V.dX16_leave_41 : decode cX16_leave 41 = .ok (.isub, 1) := by decide +kernel
theorem V.dX16_leave_42 : decode cX16_leave 42 = .ok (.putfield 70, 3) := by decide +kernel
theorem V.dX16_leave_45 : decode cX16_leave 45 = .ok (.aload_n 0, 1) := by decide +kernel
theorem V.dX16_leave_46 : decode cX16_leave 46 = .ok (.getfield 17, 3) := by decide +kernel
theorem V.dX16_leave_49 : decode cX16_leave 49 = .ok (.aload_n 0, 1) := by decide +kernel
theorem V.dX16_leave_50 : decode cX16_leave 50 = .ok (.getfield 67, 3) := by decide +kernel
theorem V.dX16_leave_53 : decode cX16_leave 53 = .ok (.iaload, 1) := by decide +kernel
theorem V.dX16_leave_54 : decode cX16_leave 54 = .ok (.istore_n 3, 1) := by decide +kernel
theorem V.dX16_leave_55 : decode cX16_leave 55 = .ok (.iconst 0, 1) := by decide +kernel
theorem V.dX16_leave_56 : decode cX16_leave 56 = .ok (.istore 4, 2) := by decide +kernel
theorem V.dX16_leave_58 : decode cX16_leave 58 = .ok (.iload 4, 2) := by decide +kernel
theorem V.dX16_leave_60 : decode cX16_leave 60 = .ok (.iload_n 2, 1) := by decide +kernel
theorem V.dX16_leave_61 : decode cX16_leave 61 = .ok (.if_icmp .ge 27, 3) := by decide +kernel
theorem V.dX16_leave_64 : decode cX16_leave 64 = .ok (.aload_n 0, 1) := by decide +kernel
theorem V.dX16_leave_65 : decode cX16_leave 65 = .ok (.getfield 9, 3) := by decide +kernel
theorem V.dX16_leave_68 : decode cX16_leave 68 = .ok (.iload_n 3, 1) := by decide +kernel
theorem V.dX16_leave_69 : decode cX16_leave 69 = .ok (.iload 4, 2) := by decide +kernel
theorem V.dX16_leave_71 : decode cX16_leave 71 = .ok (.iadd, 1) := by decide +kernel
theorem V.dX16_leave_72 : decode cX16_leave 72 = .ok (.aload_n 0, 1) := by decide +kernel
theorem V.dX16_leave_73 : decode cX16_leave 73 = .ok (.getfield 9, 3) := by decide +kernel
theorem V.dX16_leave_76 : decode cX16_leave 76 = .ok (.iload_n 1, 1) := by decide +kernel
theorem V.dX16_leave_77 : decode cX16_leave 77 = .ok (.iload 4, 2) := by decide +kernel
theorem V.dX16_leave_79 : decode cX16_leave 79 = .ok (.iadd, 1) := by decide +kernel
theorem V.dX16_leave_80 : decode cX16_leave 80 = .ok (.laload, 1) := by decide +kernel
theorem V.dX16_leave_81 : decode cX16_leave 81 = .ok (.lastore, 1) := by decide +kernel
theorem V.dX16_leave_82 : decode cX16_leave 82 = .ok (.iinc 4 1, 3) := by decide +kernel
theorem V.dX16_leave_85 : decode cX16_leave 85 = .ok (.goto (-27), 3) := by decide +kernel
theorem V.dX16_leave_88 : decode cX16_leave 88 = .ok (.aload_n 0, 1) := by decide +kernel
theorem V.dX16_leave_89 : decode cX16_leave 89 = .ok (.iload_n 3, 1) := by decide +kernel
theorem V.dX16_leave_90 : decode cX16_leave 90 = .ok (.iload_n 2, 1) := by decide +kernel
theorem V.dX16_leave_91 : decode cX16_leave 91 = .ok (.iadd, 1) := by decide +kernel
theorem V.dX16_leave_92 : decode cX16_leave 92 = .ok (.putfield 135, 3) := by decide +kernel
theorem V.dX16_leave_95 : decode cX16_leave 95 = .ok (.aload_n 0, 1) := by decide +kernel
theorem V.dX16_leave_96 : decode cX16_leave 96 = .ok (.aload_n 0, 1) := by decide +kernel
theorem V.dX16_leave_97 : decode cX16_leave 97 = .ok (.getfield 20, 3) := by decide +kernel
theorem V.dX16_leave_100 : decode cX16_leave 100 = .ok (.aload_n 0, 1) := by decide +kernel
theorem V.dX16_leave_101 : decode cX16_leave 101 = .ok (.getfield 67, 3) := by decide +kernel
theorem V.dX16_leave_104 : decode cX16_leave 104 = .ok (.iaload, 1) := by decide +kernel
theorem V.dX16_leave_105 : decode cX16_leave 105 = .ok (.putfield 144, 3) := by decide +kernel
theorem V.dX16_leave_108 : decode cX16_leave 108 = .ok (.aload_n 0, 1) := by decide +kernel
theorem V.dX16_leave_109 : decode cX16_leave 109 = .ok (.getfield 67, 3) := by decide +kernel
theorem V.dX16_leave_112 : decode cX16_leave 112 = .ok (.ifCond .ne 8, 3) := by decide +kernel
theorem V.dX16_leave_115 : decode cX16_leave 115 = .ok (.aload_n 0, 1) := by decide +kernel
theorem V.dX16_leave_116 : decode cX16_leave 116 = .ok (.iload_n 2, 1) := by decide +kernel
theorem V.dX16_leave_117 : decode cX16_leave 117 = .ok (.invokevirtual 179, 3) := by decide +kernel
theorem V.dX16_leave_120 : decode cX16_leave 120 = .ok (.return_, 1) := by decide +kernel
theorem V.mdX16_179 : MD RX16 179 yX16_end cX16_end 3 none 1 := ⟨Or.inl q2722, q376, q2725, by decide, by decide, by decide +kernel⟩
/-! ModuleEngine$Runner.leave(II)V -/
def V.Run_leave_p58  : Nat → HS → Nat → Int32 → Int32 → Int32 → Int32 → Option (Unit × HS)
  | 0, _, _, _, _, _, _ => none
  | n + 1, σ, x0, x1, x2, x3, x4 =>
    if x2 ≤ x4 then (
      ck (tg σ x0 = 17) <| bn (sI σ x0 15 (x3 + x2)) fun σ1 =>
      ck (tg σ1 x0 = 17) <|
      ck (tg σ1 x0 = 17) <|
      ck (tg σ1 (gR σ1 x0 7) = 100 ∧ inb (gI σ1 x0 13) (ln σ1 (gR σ1 x0 7))) <|
      ck (tg σ1 x0 = 17) <| bn (sI σ1 x0 16 (gI σ1 (gR σ1 x0 7) (ix (gI σ1 x0 13)))) fun σ2 =>
      ck (tg σ2 x0 = 17) <|
      if (gI σ2 x0 13) = 0 then (
        ck (tg σ2 x0 = 17) <| cl (Run_end σ2 x0 x2) fun _ σ3 =>
        some ((), σ3))
      else (
        some ((), σ2)))
    else (
      ck (tg σ x0 = 17) <|
      ck (tg σ x0 = 17) <|
      ck (tg σ (gR σ x0 4) = 101 ∧ inb (x1 + x4) (ln σ (gR σ x0 4))) <|
      ck (tg σ (gR σ x0 4) = 101 ∧ inb (x3 + x4) (ln σ (gR σ x0 4))) <| bn (sJ σ (gR σ x0 4) (ix (x3 + x4)) (gJ σ (gR σ x0 4) (ix (x1 + x4)))) fun σ4 =>
      bn (x4 + (1 : Int32)) fun y5 =>
      Run_leave_p58 n σ4 x0 x1 x2 x3 y5)
theorem V.gX16_leave_p58 {X : CX}  : ∀ (n : Nat) (σ : HS) (x0 : Nat) (x1 : Int32) (x2 : Int32) (x3 : Int32) (x4 : Int32), G X RX16 "leave" cX16_leave 5 none 3 63 enV 58 [(0, av x0), (1, iv x1), (2, iv x2), (3, iv x3), (4, iv x4)] [] σ (Run_leave_p58 n σ x0 x1 x2 x3 x4)
  | 0, σ, x0, x1, x2, x3, x4 => by rw [Run_leave_p58]; exact G.nul
  | n + 1, σ, x0, x1, x2, x3, x4 => by
    rw [Run_leave_p58]
    refine g_iload 4 dX16_leave_58 rfl ?_
    refine g_iload_n 2 2 dX16_leave_60 rfl rfl ?_
    refine g_icmp_ge 88 dX16_leave_61 (by decide) ?_ ?_
    · refine g_aload_n 0 0 dX16_leave_88 rfl rfl ?_
      refine g_iload_n 3 3 dX16_leave_89 rfl rfl ?_
      refine g_iload_n 2 2 dX16_leave_90 rfl rfl ?_
      refine g_iadd dX16_leave_91 ?_
      refine g_putI fpX16_135 dX16_leave_92 (fun σ1 => ?_)
      refine g_aload_n 0 0 dX16_leave_95 rfl rfl ?_
      refine g_aload_n 0 0 dX16_leave_96 rfl rfl ?_
      refine g_getR fdX16_20 dX16_leave_97 ?_
      refine g_aload_n 0 0 dX16_leave_100 rfl rfl ?_
      refine g_getI fdX16_67 dX16_leave_101 ?_
      refine g_iaload dX16_leave_104 ?_
      refine g_putI fpX16_144 dX16_leave_105 (fun σ2 => ?_)
      refine g_aload_n 0 0 dX16_leave_108 rfl rfl ?_
      refine g_getI fdX16_67 dX16_leave_109 ?_
      refine g_if_ne 120 dX16_leave_112 (by decide) ?_ ?_
      · exact g_return rfl dX16_leave_120
      · refine g_aload_n 0 0 dX16_leave_115 rfl rfl ?_
        refine g_iload_n 2 2 dX16_leave_116 rfl rfl ?_
        refine g_callV (fc := fun sς => Run_end sς x0 x2) (ci := 16) (as := [iv x2]) rfl rfl rfl q2724 qs183 mdX16_179 (ctX16_end x0 x2) rfl (Nat.le_of_ble_eq_true rfl) (Nat.le_of_ble_eq_true rfl) (Nat.le_of_ble_eq_true rfl) pu_V dX16_leave_117 (fun _ σ3 => ?_)
        exact g_return rfl dX16_leave_120
    · refine g_aload_n 0 0 dX16_leave_64 rfl rfl ?_
      refine g_getR fdX16_9 dX16_leave_65 ?_
      refine g_iload_n 3 3 dX16_leave_68 rfl rfl ?_
      refine g_iload 4 dX16_leave_69 rfl ?_
      refine g_iadd dX16_leave_71 ?_
      refine g_aload_n 0 0 dX16_leave_72 rfl rfl ?_
      refine g_getR fdX16_9 dX16_leave_73 ?_
      refine g_iload_n 1 1 dX16_leave_76 rfl rfl ?_
      refine g_iload 4 dX16_leave_77 rfl ?_
      refine g_iadd dX16_leave_79 ?_
      refine g_laload dX16_leave_80 ?_
      refine g_lastore dX16_leave_81 (fun σ4 => ?_)
      refine g_iincB (w := 1) 4 dX16_leave_82 rfl (by decide) (by decide) (fun _ => rfl) (fun y5 => ?_)
      refine g_goto 58 dX16_leave_85 (by decide) ?_
      refine G.sub [1, 2, 3, 4, 0] rfl ?_
      exact gX16_leave_p58 n _ _ _ _ _ _
def V.Run_leave (σ : HS) (x0 : Nat) (x1 : Int32) (x2 : Int32) : Option (Unit × HS) :=
  ck (tg σ x0 = 17) <|
  ck (tg σ x0 = 17) <| bn (sI σ x0 13 ((gI σ x0 13) - (1 : Int32))) fun σ1 =>
  ck (tg σ1 x0 = 17) <|
  ck (tg σ1 x0 = 17) <|
  ck (tg σ1 x0 = 17) <|
  ck (tg σ1 (gR σ1 x0 3) = 14) <|
  ck (tg σ1 x0 = 17) <|
  ck (tg σ1 x0 = 17) <|
  ck (tg σ1 (gR σ1 x0 5) = 100 ∧ inb (gI σ1 x0 13) (ln σ1 (gR σ1 x0 5))) <|
  ck (tg σ1 (gR σ1 (gR σ1 x0 3) 6) = 4) <| cl (Row_at σ1 (gR σ1 (gR σ1 x0 3) 6) (gI σ1 (gR σ1 x0 5) (ix (gI σ1 x0 13)))) fun r3 σ2 =>
  ck (tg σ2 (gR σ1 x0 0) = 7) <| cl (Flt_asks σ2 (gR σ1 x0 0) r3) fun r5 σ4 =>
  ck (tg σ4 x0 = 17) <| bn (sI σ4 x0 14 ((gI σ1 x0 14) - r5)) fun σ6 =>
  ck (tg σ6 x0 = 17) <|
  ck (tg σ6 x0 = 17) <|
  ck (tg σ6 (gR σ6 x0 6) = 100 ∧ inb (gI σ6 x0 13) (ln σ6 (gR σ6 x0 6))) <|
  bn (gI σ6 (gR σ6 x0 6) (ix (gI σ6 x0 13))) fun y7 =>
  Run_leave_p58 FU σ6 x0 x1 x2 y7 (0 : Int32)
theorem V.ctX16_leave (x0 : Nat) (x1 : Int32) (x2 : Int32) : Ct yX16_leave  cX16_leave 5 none 3 63 eV [av x0, iv x1, iv x2] (fun σ => Run_leave σ x0 x1 x2) := by
  refine Ct.of (own := RX16) (nm := "leave") (desc := "(II)V") rfl (by decide) (Nat.le_of_ble_eq_true rfl) (by decide) (fun X σ => ?_)
  show G X RX16 "leave" cX16_leave 5 none 3 63 enV 0 [(0, av x0), (1, iv x1), (2, iv x2)] [] σ (Run_leave σ x0 x1 x2)
  unfold Run_leave
  refine g_aload_n 0 0 dX16_leave_0 rfl rfl ?_
  refine g_dup dX16_leave_1 rfl ?_
  refine g_getI fdX16_67 dX16_leave_2 ?_
  refine g_iconst (v := 1) dX16_leave_5 (by decide) ?_
  refine g_isub dX16_leave_6 ?_
  refine g_putI fpX16_67 dX16_leave_7 (fun σ1 => ?_)
  refine g_aload_n 0 0 dX16_leave_10 rfl rfl ?_
  refine g_dup dX16_leave_11 rfl ?_
  refine g_getI fdX16_70 dX16_leave_12 ?_
  refine g_aload_n 0 0 dX16_leave_15 rfl rfl ?_
  refine g_getR fdX16_42 dX16_leave_16 ?_
  refine g_aload_n 0 0 dX16_leave_19 rfl rfl ?_
  refine g_getR fdX16_54 dX16_leave_20 ?_
  refine g_getR fdX16_97 dX16_leave_23 ?_
  refine g_aload_n 0 0 dX16_leave_26 rfl rfl ?_
  refine g_getR fdX16_13 dX16_leave_27 ?_
  refine g_aload_n 0 0 dX16_leave_30 rfl rfl ?_
  refine g_getI fdX16_67 dX16_leave_31 ?_
  refine g_iaload dX16_leave_34 ?_
  refine g_callV (fc := fun sς => Row_at sς (gR σ1 (gR σ1 x0 3) 6) (gI σ1 (gR σ1 x0 5) (ix (gI σ1 x0 13)))) (ci := 3) (as := [iv (gI σ1 (gR σ1 x0 5) (ix (gI σ1 x0 13)))]) rfl rfl rfl q1409 q1410 mdX16_101 (ctX3_at (gR σ1 (gR σ1 x0 3) 6) (gI σ1 (gR σ1 x0 5) (ix (gI σ1 x0 13)))) rfl (Nat.le_of_ble_eq_true rfl) (Nat.le_of_ble_eq_true rfl) (Nat.le_of_ble_eq_true rfl) pu_I dX16_leave_35 (fun r3 σ2 => ?_)
  refine g_callV (fc := fun sς => Flt_asks sς (gR σ1 x0 0) r3) (ci := 6) (as := [iv r3]) rfl rfl rfl q2386 q2387 mdX16_112 (ctX6_asks (gR σ1 x0 0) r3) rfl (Nat.le_of_ble_eq_true rfl) (Nat.le_of_ble_eq_true rfl) (Nat.le_of_ble_eq_true rfl) pu_I dX16_leave_38 (fun r5 σ4 => ?_)
  refine g_isub dX16_leave_41 ?_
  refine g_putI fpX16_70 dX16_leave_42 (fun σ6 => ?_)
  refine g_aload_n 0 0 dX16_leave_45 rfl rfl ?_
  refine g_getR fdX16_17 dX16_leave_46 ?_
  refine g_aload_n 0 0 dX16_leave_49 rfl rfl ?_
  refine g_getI fdX16_67 dX16_leave_50 ?_
  refine g_iaload dX16_leave_53 ?_
  refine g_nmI (fun y7 => ?_)
  refine g_istore_n 3 dX16_leave_54 rfl (by decide) rfl ?_
  refine g_iconst (v := 0) dX16_leave_55 (by decide) ?_
  refine g_istore dX16_leave_56 (by decide) rfl ?_
  refine G.sub [2, 3, 4, 1, 0] rfl ?_
  exact gX16_leave_p58 FU _ _ _ _ _ _
theorem V.dX16_instance_0 : decode cX16_instance 0 = .ok (.aload_n 0, 1) := by decide +kernel
theorem V.dX16_instance_1 : decode cX16_instance 1 = .ok (.getfield 54, 3) := by decide +kernel
theorem V.dX16_instance_4 : decode cX16_instance 4 = .ok (.getfield 204, 3) := by decide +kernel
theorem V.dX16_instance_7 : decode cX16_instance 7 = .ok (.aload_n 0, 1) := by decide +kernel
theorem V.dX16_instance_8 : decode cX16_instance 8 = .ok (.getfield 13, 3) := by decide +kernel
theorem V.dX16_instance_11 : decode cX16_instance 11 = .ok (.aload_n 0, 1) := by decide +kernel
theorem V.dX16_instance_12 : decode cX16_instance 12 = .ok (.getfield 67, 3) := by decide +kernel
theorem V.dX16_instance_15 : decode cX16_instance 15 = .ok (.iconst 1, 1) := by decide +kernel
theorem V.dX16_instance_16 : decode cX16_instance 16 = .ok (.isub, 1) := by decide +kernel
theorem V.dX16_instance_17 : decode cX16_instance 17 = .ok (.iaload, 1) := by decide +kernel
theorem V.dX16_instance_18 : decode cX16_instance 18 = .ok (.invokevirtual 101, 3) := by decide +kernel
theorem V.dX16_instance_21 : decode cX16_instance 21 = .ok (.ireturn, 1) := by decide +kernel
theorem V.fdX16_204 : FD RX16 204 13 5 2 := ⟨(RX13, TX13, 27), tyX13, rfl, rfl, in_X13, by decide, Or.inr ⟨_, q1024⟩, rfl⟩
/-! ModuleEngine$Runner.instance()I -/
def V.Run_instance (σ : HS) (x0 : Nat) : Option (Int32 × HS) :=
  ck (tg σ x0 = 17) <|
  ck (tg σ (gR σ x0 3) = 14) <|
  ck (tg σ x0 = 17) <|
  ck (tg σ x0 = 17) <|
  ck (tg σ (gR σ x0 5) = 100 ∧ inb ((gI σ x0 13) - (1 : Int32)) (ln σ (gR σ x0 5))) <|
  ck (tg σ (gR σ (gR σ x0 3) 5) = 4) <| cl (Row_at σ (gR σ (gR σ x0 3) 5) (gI σ (gR σ x0 5) (ix ((gI σ x0 13) - (1 : Int32))))) fun r2 σ1 =>
  some (r2, σ1)
theorem V.ctX16_instance (x0 : Nat) : Ct yX16_instance  cX16_instance 1 (some .int) 1 21 eI [av x0] (fun σ => Run_instance σ x0) := by
  refine Ct.of (own := RX16) (nm := "instance") (desc := "()I") rfl (by decide) (Nat.le_of_ble_eq_true rfl) (by decide) (fun X σ => ?_)
  show G X RX16 "instance" cX16_instance 1 (some .int) 1 21 enI 0 [(0, av x0)] [] σ (Run_instance σ x0)
  unfold Run_instance
  refine g_aload_n 0 0 dX16_instance_0 rfl rfl ?_
  refine g_getR fdX16_54 dX16_instance_1 ?_
  refine g_getR fdX16_204 dX16_instance_4 ?_
  refine g_aload_n 0 0 dX16_instance_7 rfl rfl ?_
  refine g_getR fdX16_13 dX16_instance_8 ?_
  refine g_aload_n 0 0 dX16_instance_11 rfl rfl ?_
  refine g_getI fdX16_67 dX16_instance_12 ?_
  refine g_iconst (v := 1) dX16_instance_15 (by decide) ?_
  refine g_isub dX16_instance_16 ?_
  refine g_iaload dX16_instance_17 ?_
  refine g_callV (fc := fun sς => Row_at sς (gR σ (gR σ x0 3) 5) (gI σ (gR σ x0 5) (ix ((gI σ x0 13) - (1 : Int32))))) (ci := 3) (as := [iv (gI σ (gR σ x0 5) (ix ((gI σ x0 13) - (1 : Int32))))]) rfl rfl rfl q1409 q1410 mdX16_101 (ctX3_at (gR σ (gR σ x0 3) 5) (gI σ (gR σ x0 5) (ix ((gI σ x0 13) - (1 : Int32))))) rfl (Nat.le_of_ble_eq_true rfl) (Nat.le_of_ble_eq_true rfl) (Nat.le_of_ble_eq_true rfl) pu_I dX16_instance_18 (fun r2 σ1 => ?_)
  exact g_ireturn rfl dX16_instance_21
theorem V.dX16_called_0 : decode cX16_called 0 = .ok (.aload_n 0, 1) := by decide +kernel
theorem V.dX16_called_1 : decode cX16_called 1 = .ok (.getfield 54, 3) := by decide +kernel
theorem V.dX16_called_4 : decode cX16_called 4 = .ok (.getfield 207, 3) := by decide +kernel
theorem V.dX16_called_7 : decode cX16_called 7 = .ok (.aload_n 0, 1) := by decide +kernel
theorem V.dX16_called_8 : decode cX16_called 8 = .ok (.invokevirtual 211, 3) := by decide +kernel
theorem V.dX16_called_11 : decode cX16_called 11 = .ok (.aaload, 1) := by decide +kernel
theorem V.dX16_called_12 : decode cX16_called 12 = .ok (.iload_n 1, 1) := by decide +kernel
theorem V.dX16_called_13 : decode cX16_called 13 = .ok (.invokevirtual 101, 3) := by decide +kernel
theorem V.dX16_called_16 : decode cX16_called 16 = .ok (.ireturn, 1) := by decide +kernel
theorem V.fdX16_207 : FD RX16 207 13 15 2 := ⟨(RX13, TX13, 27), tyX13, rfl, rfl, in_X13, by decide, Or.inr ⟨_, q1043⟩, rfl⟩
theorem V.mdX16_211 : MD RX16 211 yX16_instance cX16_instance 1 (some .int) 0 := ⟨Or.inl q2730, q376, q2733, by decide, by decide, by decide +kernel⟩
/-! ModuleEngine$Runner.called(I)I -/
def V.Run_called (σ : HS) (x0 : Nat) (x1 : Int32) : Option (Int32 × HS) :=
  ck (tg σ x0 = 17) <|
  ck (tg σ (gR σ x0 3) = 14) <|
  ck (tg σ x0 = 17) <| cl (Run_instance σ x0 ) fun r2 σ1 =>
  ck (tg σ1 (gR σ (gR σ x0 3) 15) = 104 ∧ inb r2 (ln σ1 (gR σ (gR σ x0 3) 15))) <|
  ck (tg σ1 (gR σ1 (gR σ (gR σ x0 3) 15) (ix r2)) = 4) <| cl (Row_at σ1 (gR σ1 (gR σ (gR σ x0 3) 15) (ix r2)) x1) fun r4 σ3 =>
  some (r4, σ3)
theorem V.ctX16_called (x0 : Nat) (x1 : Int32) : Ct yX16_called  cX16_called 2 (some .int) 2 41 eI [av x0, iv x1] (fun σ => Run_called σ x0 x1) := by
  refine Ct.of (own := RX16) (nm := "called") (desc := "(I)I") rfl (by decide) (Nat.le_of_ble_eq_true rfl) (by decide) (fun X σ => ?_)
  show G X RX16 "called" cX16_called 2 (some .int) 2 41 enI 0 [(0, av x0), (1, iv x1)] [] σ (Run_called σ x0 x1)
  unfold Run_called
  refine g_aload_n 0 0 dX16_called_0 rfl rfl ?_
  refine g_getR fdX16_54 dX16_called_1 ?_
  refine g_getR fdX16_207 dX16_called_4 ?_
  refine g_aload_n 0 0 dX16_called_7 rfl rfl ?_
  refine g_callV (fc := fun sς => Run_instance sς x0 ) (ci := 16) (as := []) rfl rfl rfl q2732 qs185 mdX16_211 (ctX16_instance x0 ) rfl (Nat.le_of_ble_eq_true rfl) (Nat.le_of_ble_eq_true rfl) (Nat.le_of_ble_eq_true rfl) pu_I dX16_called_8 (fun r2 σ1 => ?_)
  refine g_aaload 4 rfl dX16_called_11 ?_
  refine g_iload_n 1 1 dX16_called_12 rfl rfl ?_
  refine g_callV (fc := fun sς => Row_at sς (gR σ1 (gR σ (gR σ x0 3) 15) (ix r2)) x1) (ci := 3) (as := [iv x1]) rfl rfl rfl q1409 q1410 mdX16_101 (ctX3_at (gR σ1 (gR σ (gR σ x0 3) 15) (ix r2)) x1) rfl (Nat.le_of_ble_eq_true rfl) (Nat.le_of_ble_eq_true rfl) (Nat.le_of_ble_eq_true rfl) pu_I dX16_called_13 (fun r4 σ3 => ?_)
  exact g_ireturn rfl dX16_called_16
theorem V.dX16_callEntry_0 : decode cX16_callEntry 0 = .ok (.aload_n 0, 1) := by decide +kernel
theorem V.dX16_callEntry_1 : decode cX16_callEntry 1 = .ok (.invokevirtual 211, 3) := by decide +kernel
theorem V.dX16_callEntry_4 : decode cX16_callEntry 4 = .ok (.istore 6, 2) := by decide +kernel
theorem V.dX16_callEntry_6 : decode cX16_callEntry 6 = .ok (.aload_n 0, 1) := by decide +kernel
theorem V.dX16_callEntry_7 : decode cX16_callEntry 7 = .ok (.getfield 54, 3) := by decide +kernel
theorem V.dX16_callEntry_10 : decode cX16_callEntry 10 = .ok (.getfield 214, 3) := by decide +kernel
theorem V.dX16_callEntry_13 : decode cX16_callEntry 13 = .ok (.iload 6, 2) := by decide +kernel
theorem V.dX16_callEntry_15 : decode cX16_callEntry 15 = .ok (.aaload, 1) := by decide +kernel
theorem V.dX16_callEntry_16 : decode cX16_callEntry 16 = .ok (.iload 4, 2) := by decide +kernel
theorem V.dX16_callEntry_18 : decode cX16_callEntry 18 = .ok (.invokevirtual 101, 3) := by decide +kernel
theorem V.dX16_callEntry_21 : decode cX16_callEntry 21 = .ok (.istore 7, 2) := by decide +kernel
theorem V.dX16_callEntry_23 : decode cX16_callEntry 23 = .ok (.lload_n 1, 1) := by decide +kernel
theorem V.dX16_callEntry_24 : decode cX16_callEntry 24 = .ok (.aload_n 0, 1) := by decide +kernel
theorem V.dX16_callEntry_25 : decode cX16_callEntry 25 = .ok (.getfield 54, 3) := by decide +kernel
theorem V.dX16_callEntry_28 : decode cX16_callEntry 28 = .ok (.getfield 217, 3) := by decide +kernel
theorem V.dX16_callEntry_31 : decode cX16_callEntry 31 = .ok (.iload 7, 2) := by decide +kernel
theorem V.dX16_callEntry_33 : decode cX16_callEntry 33 = .ok (.invokevirtual 221, 3) := by decide +kernel
theorem V.dX16_callEntry_36 : decode cX16_callEntry 36 = .ok (.i2l, 1) := by decide +kernel
theorem V.dX16_callEntry_37 : decode cX16_callEntry 37 = .ok (.lcmp, 1) := by decide +kernel
theorem V.dX16_callEntry_38 : decode cX16_callEntry 38 = .ok (.ifCond .lt 10, 3) := by decide +kernel
theorem V.dX16_callEntry_41 : decode cX16_callEntry 41 = .ok (.aload_n 0, 1) := by decide +kernel
theorem V.dX16_callEntry_42 : decode cX16_callEntry 42 = .ok (.bipush 7, 2) := by decide +kernel
theorem V.dX16_callEntry_44 : decode cX16_callEntry 44 = .ok (.invokevirtual 226, 3) := by decide +kernel
theorem V.dX16_callEntry_47 : decode cX16_callEntry 47 = .ok (.return_, 1) := by decide +kernel
theorem V.dX16_callEntry_48 : decode cX16_callEntry 48 = .ok (.aload_n 0, 1) := by decide +kernel
theorem V.dX16_callEntry_49 : decode cX16_callEntry 49 = .ok (.getfield 54, 3) := by decide +kernel
theorem V.dX16_callEntry_52 : decode cX16_callEntry 52 = .ok (.getfield 217, 3) := by decide +kernel
theorem V.dX16_callEntry_55 : decode cX16_callEntry 55 = .ok (.iload 7, 2) := by decide +kernel
theorem V.dX16_callEntry_57 : decode cX16_callEntry 57 = .ok (.lload_n 1, 1) := by decide +kernel
theorem V.dX16_callEntry_58 : decode cX16_callEntry 58 = .ok (.invokevirtual 229, 3) := by decide +kernel
theorem V.dX16_callEntry_61 : decode cX16_callEntry 61 = .ok (.istore 8, 2) := by decide +kernel
theorem V.dX16_callEntry_63 : decode cX16_callEntry 63 = .ok (.iload 8, 2) := by decide +kernel
theorem V.dX16_callEntry_65 : decode cX16_callEntry 65 = .ok (.ifCond .ge 12, 3) := by decide +kernel
theorem V.dX16_callEntry_68 : decode cX16_callEntry 68 = .ok (.aload_n 0, 1) := by decide +kernel
theorem V.dX16_callEntry_69 : decode cX16_callEntry 69 = .ok (.bipush 8, 2) := by decide +kernel
theorem V.dX16_callEntry_71 : decode cX16_callEntry 71 = .ok (.invokevirtual 226, 3) := by decide +kernel
theorem V.dX16_callEntry_74 : decode cX16_callEntry 74 = .ok (.goto 70, 3) := by decide +kernel
theorem V.dX16_callEntry_77 : decode cX16_callEntry 77 = .ok (.aload_n 0, 1) := by decide +kernel
theorem V.dX16_callEntry_78 : decode cX16_callEntry 78 = .ok (.getfield 54, 3) := by decide +kernel
theorem V.dX16_callEntry_81 : decode cX16_callEntry 81 = .ok (.aload_n 0, 1) := by decide +kernel
theorem V.dX16_callEntry_82 : decode cX16_callEntry 82 = .ok (.getfield 13, 3) := by decide +kernel
theorem V.dX16_callEntry_85 : decode cX16_callEntry 85 = .ok (.aload_n 0, 1) := by decide +kernel
theorem V.dX16_callEntry_86 : decode cX16_callEntry 86 = .ok (.getfield 67, 3) := by decide +kernel
theorem V.dX16_callEntry_89 : decode cX16_callEntry 89 = .ok (.iconst 1, 1) := by decide +kernel
theorem V.dX16_callEntry_90 : decode cX16_callEntry 90 = .ok (.isub, 1) := by decide +kernel
theorem V.dX16_callEntry_91 : decode cX16_callEntry 91 = .ok (.iaload, 1) := by decide +kernel
theorem V.dX16_callEntry_92 : decode cX16_callEntry 92 = .ok (.invokevirtual 154, 3) := by decide +kernel
theorem V.dX16_callEntry_95 : decode cX16_callEntry 95 = .ok (.iload_n 3, 1) := by decide +kernel
theorem V.dX16_callEntry_96 : decode cX16_callEntry 96 = .ok (.aload_n 0, 1) := by decide +kernel
theorem V.dX16_callEntry_97 : decode cX16_callEntry 97 = .ok (.getfield 54, 3) := by decide +kernel
theorem V.dX16_callEntry_100 : decode cX16_callEntry 100 = .ok (.iload 8, 2) := by decide +kernel
theorem V.dX16_callEntry_102 : decode cX16_callEntry 102 = .ok (.invokevirtual 154, 3) := by decide +kernel
theorem V.dX16_callEntry_105 : decode cX16_callEntry 105 = .ok (.aload_n 0, 1) := by decide +kernel
theorem V.dX16_callEntry_106 : decode cX16_callEntry 106 = .ok (.getfield 54, 3) := by decide +kernel
theorem V.dX16_callEntry_109 : decode cX16_callEntry 109 = .ok (.getfield 233, 3) := by decide +kernel
theorem V.dX16_callEntry_112 : decode cX16_callEntry 112 = .ok (.iload 8, 2) := by decide +kernel
theorem V.dX16_callEntry_114 : decode cX16_callEntry 114 = .ok (.invokevirtual 101, 3) := by decide +kernel
theorem V.dX16_callEntry_117 : decode cX16_callEntry 117 = .ok (.invokestatic 236, 3) := by decide +kernel
theorem V.dX16_callEntry_120 : decode cX16_callEntry 120 = .ok (.ifCond .ne 12, 3) := by decide +kernel
theorem V.dX16_callEntry_123 : decode cX16_callEntry 123 = .ok (.aload_n 0, 1) := by decide +kernel
theorem V.dX16_callEntry_124 : decode cX16_callEntry 124 = .ok (.bipush 9, 2) := by decide +kernel
theorem V.dX16_callEntry_126 : decode cX16_callEntry 126 = .ok (.invokevirtual 226, 3) := by decide +kernel
theorem V.dX16_callEntry_129 : decode cX16_callEntry 129 = .ok (.goto 15, 3) := by decide +kernel
theorem V.dX16_callEntry_132 : decode cX16_callEntry 132 = .ok (.aload_n 0, 1) := by decide +kernel
theorem V.dX16_callEntry_133 : decode cX16_callEntry 133 = .ok (.iload 8, 2) := by decide +kernel
theorem V.dX16_callEntry_135 : decode cX16_callEntry 135 = .ok (.iload 5, 2) := by decide +kernel
theorem V.dX16_callEntry_137 : decode cX16_callEntry 137 = .ok (.aload_n 0, 1) := by decide +kernel
theorem V.dX16_callEntry_138 : decode cX16_callEntry 138 = .ok (.getfield 144, 3) := by decide +kernel
theorem V.dX16_callEntry_141 : decode cX16_callEntry 141 = .ok (.invokevirtual 86, 3) := by decide +kernel
theorem V.dX16_callEntry_144 : decode cX16_callEntry 144 = .ok (.return_, 1) := by decide +kernel
theorem V.fdX16_214 : FD RX16 214 13 16 2 := ⟨(RX13, TX13, 27), tyX13, rfl, rfl, in_X13, by decide, Or.inr ⟨_, q1045⟩, rfl⟩
theorem V.fdX16_217 : FD RX16 217 13 7 2 := ⟨(RX13, TX13, 27), tyX13, rfl, rfl, in_X13, by decide, Or.inr ⟨_, q1029⟩, rfl⟩
theorem V.mdX16_221 : MD RX16 221 yX14_size cX14_size 2 (some .int) 1 := ⟨Or.inl q2738, q374, q2218, by decide, by decide, by decide +kernel⟩
theorem V.mdX16_229 : MD RX16 229 yX14_get cX14_get 4 (some .int) 2 := ⟨Or.inl q2739, q374, q2742, by decide, by decide, by decide +kernel⟩
theorem V.fdX16_233 : FD RX16 233 13 4 2 := ⟨(RX13, TX13, 27), tyX13, rfl, rfl, in_X13, by decide, Or.inr ⟨_, q1022⟩, rfl⟩
theorem V.mdX16_236 : MD RX16 236 yX13_isLike cX13_isLike 5 (some .boolean) 4 := ⟨Or.inl q2743, q373, q2206, by decide, by decide, by decide +kernel⟩
theorem V.mdX16_86 : MD RX16 86 yX16_enter cX16_enter 5 none 3 := ⟨Or.inl q2376, q376, q2379, by decide, by decide, by decide +kernel⟩
theorem V.mdX16_226 : MD RX16 226 yX16_stop cX16_stop 2 none 1 := ⟨Or.inl q2708, q376, q2366, by decide, by decide, by decide +kernel⟩
/-! ModuleEngine$Runner.callEntry(JIII)V -/
def V.Run_callEntry (σ : HS) (x0 : Nat) (x1 : Int64) (x3 : Int32) (x4 : Int32) (x5 : Int32) : Option (Unit × HS) :=
  ck (tg σ x0 = 17) <| cl (Run_instance σ x0 ) fun r2 σ1 =>
  ck (tg σ1 x0 = 17) <|
  ck (tg σ1 (gR σ1 x0 3) = 14) <|
  ck (tg σ1 (gR σ1 (gR σ1 x0 3) 16) = 104 ∧ inb r2 (ln σ1 (gR σ1 (gR σ1 x0 3) 16))) <|
  ck (tg σ1 (gR σ1 (gR σ1 (gR σ1 x0 3) 16) (ix r2)) = 4) <| cl (Row_at σ1 (gR σ1 (gR σ1 (gR σ1 x0 3) 16) (ix r2)) x4) fun r4 σ3 =>
  ck (tg σ3 x0 = 17) <|
  ck (tg σ3 (gR σ3 x0 3) = 14) <|
  ck (tg σ3 (gR σ3 (gR σ3 x0 3) 7) = 15) <| cl (Tab_size σ3 (gR σ3 (gR σ3 x0 3) 7) r4) fun r6 σ5 =>
  if x1 < r6.toInt64 then (
    ck (tg σ5 x0 = 17) <|
    ck (tg σ5 (gR σ5 x0 3) = 14) <|
    ck (tg σ5 (gR σ5 (gR σ5 x0 3) 7) = 15) <| cl (Tab_get σ5 (gR σ5 (gR σ5 x0 3) 7) r4 x1) fun r8 σ7 =>
    if 0 ≤ r8 then (
      ck (tg σ7 x0 = 17) <|
      ck (tg σ7 x0 = 17) <|
      ck (tg σ7 x0 = 17) <|
      ck (tg σ7 (gR σ7 x0 5) = 100 ∧ inb ((gI σ7 x0 13) - (1 : Int32)) (ln σ7 (gR σ7 x0 5))) <|
      ck (tg σ7 (gR σ7 x0 3) = 14) <| cl (Sto_moduleOf σ7 (gR σ7 x0 3) (gI σ7 (gR σ7 x0 5) (ix ((gI σ7 x0 13) - (1 : Int32))))) fun r10 σ9 =>
      ck (tg σ9 x0 = 17) <|
      ck (tg σ9 (gR σ9 x0 3) = 14) <| cl (Sto_moduleOf σ9 (gR σ9 x0 3) r8) fun r12 σ11 =>
      ck (tg σ11 x0 = 17) <|
      ck (tg σ11 (gR σ11 x0 3) = 14) <|
      ck (tg σ11 (gR σ11 (gR σ11 x0 3) 4) = 4) <| cl (Row_at σ11 (gR σ11 (gR σ11 x0 3) 4) r8) fun r14 σ13 =>
      cl (Sto_isLike σ13 r10 x3 r12 r14) fun r16 σ15 =>
      if r16 = 0 then (
        ck (tg σ15 x0 = 17) <| cl (Run_stop σ15 x0 (9 : Int32)) fun _ σ18 =>
        some ((), σ18))
      else (
        ck (tg σ15 x0 = 17) <|
        ck (tg σ15 x0 = 17) <| cl (Run_enter σ15 x0 r8 x5 (gI σ15 x0 16)) fun _ σ17 =>
        some ((), σ17)))
    else (
      ck (tg σ7 x0 = 17) <| cl (Run_stop σ7 x0 (8 : Int32)) fun _ σ19 =>
      some ((), σ19)))
  else (
    ck (tg σ5 x0 = 17) <| cl (Run_stop σ5 x0 (7 : Int32)) fun _ σ20 =>
    some ((), σ20))
theorem V.ctX16_callEntry (x0 : Nat) (x1 : Int64) (x3 : Int32) (x4 : Int32) (x5 : Int32) : Ct yX16_callEntry  cX16_callEntry 9 none 14 368 eV [av x0, jv x1, iv x3, iv x4, iv x5] (fun σ => Run_callEntry σ x0 x1 x3 x4 x5) := by
  refine Ct.of (own := RX16) (nm := "callEntry") (desc := "(JIII)V") rfl (by decide) (Nat.le_of_ble_eq_true rfl) (by decide) (fun X σ => ?_)
  show G X RX16 "callEntry" cX16_callEntry 9 none 14 368 enV 0 [(0, av x0), (1, jv x1), (3, iv x3), (4, iv x4), (5, iv x5)] [] σ (Run_callEntry σ x0 x1 x3 x4 x5)
  unfold Run_callEntry
  refine g_aload_n 0 0 dX16_callEntry_0 rfl rfl ?_
  refine g_callV (fc := fun sς => Run_instance sς x0 ) (ci := 16) (as := []) rfl rfl rfl q2732 qs185 mdX16_211 (ctX16_instance x0 ) rfl (Nat.le_of_ble_eq_true rfl) (Nat.le_of_ble_eq_true rfl) (Nat.le_of_ble_eq_true rfl) pu_I dX16_callEntry_1 (fun r2 σ1 => ?_)
  refine g_istore dX16_callEntry_4 (by decide) rfl ?_
  refine g_aload_n 0 1 dX16_callEntry_6 rfl rfl ?_
  refine g_getR fdX16_54 dX16_callEntry_7 ?_
  refine g_getR fdX16_214 dX16_callEntry_10 ?_
  refine g_iload 0 dX16_callEntry_13 rfl ?_
  refine g_aaload 4 rfl dX16_callEntry_15 ?_
  refine g_iload 4 dX16_callEntry_16 rfl ?_
  refine g_callV (fc := fun sς => Row_at sς (gR σ1 (gR σ1 (gR σ1 x0 3) 16) (ix r2)) x4) (ci := 3) (as := [iv x4]) rfl rfl rfl q1409 q1410 mdX16_101 (ctX3_at (gR σ1 (gR σ1 (gR σ1 x0 3) 16) (ix r2)) x4) rfl (Nat.le_of_ble_eq_true rfl) (Nat.le_of_ble_eq_true rfl) (Nat.le_of_ble_eq_true rfl) pu_I dX16_callEntry_18 (fun r4 σ3 => ?_)
  refine g_istore dX16_callEntry_21 (by decide) rfl ?_
  refine g_lload_n 1 3 dX16_callEntry_23 rfl rfl ?_
  refine g_aload_n 0 2 dX16_callEntry_24 rfl rfl ?_
  refine g_getR fdX16_54 dX16_callEntry_25 ?_
  refine g_getR fdX16_217 dX16_callEntry_28 ?_
  refine g_iload 0 dX16_callEntry_31 rfl ?_
  refine g_callV (fc := fun sς => Tab_size sς (gR σ3 (gR σ3 x0 3) 7) r4) (ci := 14) (as := [iv r4]) rfl rfl rfl q2216 q2217 mdX16_221 (ctX14_size (gR σ3 (gR σ3 x0 3) 7) r4) rfl (Nat.le_of_ble_eq_true rfl) (Nat.le_of_ble_eq_true rfl) (Nat.le_of_ble_eq_true rfl) pu_I dX16_callEntry_33 (fun r6 σ5 => ?_)
  refine g_i2l dX16_callEntry_36 ?_
  refine g_lcmp_lt 48 dX16_callEntry_37 dX16_callEntry_38 (by decide) ?_ ?_
  · refine g_aload_n 0 2 dX16_callEntry_48 rfl rfl ?_
    refine g_getR fdX16_54 dX16_callEntry_49 ?_
    refine g_getR fdX16_217 dX16_callEntry_52 ?_
    refine g_iload 0 dX16_callEntry_55 rfl ?_
    refine g_lload_n 1 3 dX16_callEntry_57 rfl rfl ?_
    refine g_callV (fc := fun sς => Tab_get sς (gR σ5 (gR σ5 x0 3) 7) r4 x1) (ci := 14) (as := [iv r4, jv x1]) rfl rfl rfl q2740 q2741 mdX16_229 (ctX14_get (gR σ5 (gR σ5 x0 3) 7) r4 x1) rfl (Nat.le_of_ble_eq_true rfl) (Nat.le_of_ble_eq_true rfl) (Nat.le_of_ble_eq_true rfl) pu_I dX16_callEntry_58 (fun r8 σ7 => ?_)
    refine g_istore dX16_callEntry_61 (by decide) rfl ?_
    refine g_iload 0 dX16_callEntry_63 rfl ?_
    refine g_if_ge 77 dX16_callEntry_65 (by decide) ?_ ?_
    · refine g_aload_n 0 3 dX16_callEntry_77 rfl rfl ?_
      refine g_getR fdX16_54 dX16_callEntry_78 ?_
      refine g_aload_n 0 3 dX16_callEntry_81 rfl rfl ?_
      refine g_getR fdX16_13 dX16_callEntry_82 ?_
      refine g_aload_n 0 3 dX16_callEntry_85 rfl rfl ?_
      refine g_getI fdX16_67 dX16_callEntry_86 ?_
      refine g_iconst (v := 1) dX16_callEntry_89 (by decide) ?_
      refine g_isub dX16_callEntry_90 ?_
      refine g_iaload dX16_callEntry_91 ?_
      refine g_callV (fc := fun sς => Sto_moduleOf sς (gR σ7 x0 3) (gI σ7 (gR σ7 x0 5) (ix ((gI σ7 x0 13) - (1 : Int32))))) (ci := 13) (as := [iv (gI σ7 (gR σ7 x0 5) (ix ((gI σ7 x0 13) - (1 : Int32))))]) rfl rfl rfl q2201 q2202 mdX16_154 (ctX13_moduleOf (gR σ7 x0 3) (gI σ7 (gR σ7 x0 5) (ix ((gI σ7 x0 13) - (1 : Int32))))) rfl (Nat.le_of_ble_eq_true rfl) (Nat.le_of_ble_eq_true rfl) (Nat.le_of_ble_eq_true rfl) pu_R dX16_callEntry_92 (fun r10 σ9 => ?_)
      refine g_iload_n 3 5 dX16_callEntry_95 rfl rfl ?_
      refine g_aload_n 0 3 dX16_callEntry_96 rfl rfl ?_
      refine g_getR fdX16_54 dX16_callEntry_97 ?_
      refine g_iload 0 dX16_callEntry_100 rfl ?_
      refine g_callV (fc := fun sς => Sto_moduleOf sς (gR σ9 x0 3) r8) (ci := 13) (as := [iv r8]) rfl rfl rfl q2201 q2202 mdX16_154 (ctX13_moduleOf (gR σ9 x0 3) r8) rfl (Nat.le_of_ble_eq_true rfl) (Nat.le_of_ble_eq_true rfl) (Nat.le_of_ble_eq_true rfl) pu_R dX16_callEntry_102 (fun r12 σ11 => ?_)
      refine g_aload_n 0 3 dX16_callEntry_105 rfl rfl ?_
      refine g_getR fdX16_54 dX16_callEntry_106 ?_
      refine g_getR fdX16_233 dX16_callEntry_109 ?_
      refine g_iload 0 dX16_callEntry_112 rfl ?_
      refine g_callV (fc := fun sς => Row_at sς (gR σ11 (gR σ11 x0 3) 4) r8) (ci := 3) (as := [iv r8]) rfl rfl rfl q1409 q1410 mdX16_101 (ctX3_at (gR σ11 (gR σ11 x0 3) 4) r8) rfl (Nat.le_of_ble_eq_true rfl) (Nat.le_of_ble_eq_true rfl) (Nat.le_of_ble_eq_true rfl) pu_I dX16_callEntry_114 (fun r14 σ13 => ?_)
      refine g_callS (fc := fun sς => Sto_isLike sς r10 x3 r12 r14) (as := [av r10, iv x3, av r12, iv r14]) q2205 mdX16_236 (ctX13_isLike r10 x3 r12 r14) rfl (Nat.le_of_ble_eq_true rfl) (Nat.le_of_ble_eq_true rfl) (Nat.le_of_ble_eq_true rfl) pu_I dX16_callEntry_117 (fun r16 σ15 => ?_)
      refine g_if_ne 132 dX16_callEntry_120 (by decide) ?_ ?_
      · refine g_aload_n 0 3 dX16_callEntry_132 rfl rfl ?_
        refine g_iload 0 dX16_callEntry_133 rfl ?_
        refine g_iload 7 dX16_callEntry_135 rfl ?_
        refine g_aload_n 0 3 dX16_callEntry_137 rfl rfl ?_
        refine g_getI fdX16_144 dX16_callEntry_138 ?_
        refine g_callV (fc := fun sς => Run_enter sς x0 r8 x5 (gI σ15 x0 16)) (ci := 16) (as := [iv r8, iv x5, iv (gI σ15 x0 16)]) rfl rfl rfl q2378 qs141 mdX16_86 (ctX16_enter x0 r8 x5 (gI σ15 x0 16)) rfl (Nat.le_of_ble_eq_true rfl) (Nat.le_of_ble_eq_true rfl) (Nat.le_of_ble_eq_true rfl) pu_V dX16_callEntry_141 (fun _ σ17 => ?_)
        exact g_return rfl dX16_callEntry_144
      · refine g_aload_n 0 3 dX16_callEntry_123 rfl rfl ?_
        refine g_bipush (v := 9) dX16_callEntry_124 (by decide) ?_
        refine g_callV (fc := fun sς => Run_stop sς x0 (9 : Int32)) (ci := 16) (as := [iv (9 : Int32)]) rfl rfl rfl q2364 q2365 mdX16_226 (ctX16_stop x0 (9 : Int32)) rfl (Nat.le_of_ble_eq_true rfl) (Nat.le_of_ble_eq_true rfl) (Nat.le_of_ble_eq_true rfl) pu_V dX16_callEntry_126 (fun _ σ18 => ?_)
        refine g_goto 144 dX16_callEntry_129 (by decide) ?_
        exact g_return rfl dX16_callEntry_144
    · refine g_aload_n 0 3 dX16_callEntry_68 rfl rfl ?_
      refine g_bipush (v := 8) dX16_callEntry_69 (by decide) ?_
      refine g_callV (fc := fun sς => Run_stop sς x0 (8 : Int32)) (ci := 16) (as := [iv (8 : Int32)]) rfl rfl rfl q2364 q2365 mdX16_226 (ctX16_stop x0 (8 : Int32)) rfl (Nat.le_of_ble_eq_true rfl) (Nat.le_of_ble_eq_true rfl) (Nat.le_of_ble_eq_true rfl) pu_V dX16_callEntry_71 (fun _ σ19 => ?_)
      refine g_goto 144 dX16_callEntry_74 (by decide) ?_
      exact g_return rfl dX16_callEntry_144
  · refine g_aload_n 0 2 dX16_callEntry_41 rfl rfl ?_
    refine g_bipush (v := 7) dX16_callEntry_42 (by decide) ?_
    refine g_callV (fc := fun sς => Run_stop sς x0 (7 : Int32)) (ci := 16) (as := [iv (7 : Int32)]) rfl rfl rfl q2364 q2365 mdX16_226 (ctX16_stop x0 (7 : Int32)) rfl (Nat.le_of_ble_eq_true rfl) (Nat.le_of_ble_eq_true rfl) (Nat.le_of_ble_eq_true rfl) pu_V dX16_callEntry_44 (fun _ σ20 => ?_)
    exact g_return rfl dX16_callEntry_47
theorem V.dX16_global_0 : decode cX16_global 0 = .ok (.aload_n 0, 1) := by decide +kernel
theorem V.dX16_global_1 : decode cX16_global 1 = .ok (.getfield 54, 3) := by decide +kernel
theorem V.dX16_global_4 : decode cX16_global 4 = .ok (.getfield 267, 3) := by decide +kernel
theorem V.dX16_global_7 : decode cX16_global 7 = .ok (.aload_n 0, 1) := by decide +kernel
theorem V.dX16_global_8 : decode cX16_global 8 = .ok (.invokevirtual 211, 3) := by decide +kernel
theorem V.dX16_global_11 : decode cX16_global 11 = .ok (.aaload, 1) := by decide +kernel
theorem V.dX16_global_12 : decode cX16_global 12 = .ok (.iload_n 1, 1) := by decide +kernel
theorem V.dX16_global_13 : decode cX16_global 13 = .ok (.invokevirtual 101, 3) := by decide +kernel
theorem V.dX16_global_16 : decode cX16_global 16 = .ok (.ireturn, 1) := by decide +kernel
theorem V.fdX16_267 : FD RX16 267 13 18 2 := ⟨(RX13, TX13, 27), tyX13, rfl, rfl, in_X13, by decide, Or.inr ⟨_, q1049⟩, rfl⟩
/-! ModuleEngine$Runner.global(I)I -/
def V.Run_global (σ : HS) (x0 : Nat) (x1 : Int32) : Option (Int32 × HS) :=
  ck (tg σ x0 = 17) <|
  ck (tg σ (gR σ x0 3) = 14) <|
  ck (tg σ x0 = 17) <| cl (Run_instance σ x0 ) fun r2 σ1 =>
  ck (tg σ1 (gR σ (gR σ x0 3) 18) = 104 ∧ inb r2 (ln σ1 (gR σ (gR σ x0 3) 18))) <|
  ck (tg σ1 (gR σ1 (gR σ (gR σ x0 3) 18) (ix r2)) = 4) <| cl (Row_at σ1 (gR σ1 (gR σ (gR σ x0 3) 18) (ix r2)) x1) fun r4 σ3 =>
  some (r4, σ3)
theorem V.ctX16_global (x0 : Nat) (x1 : Int32) : Ct yX16_global  cX16_global 2 (some .int) 2 41 eI [av x0, iv x1] (fun σ => Run_global σ x0 x1) := by
  refine Ct.of (own := RX16) (nm := "global") (desc := "(I)I") rfl (by decide) (Nat.le_of_ble_eq_true rfl) (by decide) (fun X σ => ?_)
  show G X RX16 "global" cX16_global 2 (some .int) 2 41 enI 0 [(0, av x0), (1, iv x1)] [] σ (Run_global σ x0 x1)
  unfold Run_global
  refine g_aload_n 0 0 dX16_global_0 rfl rfl ?_
  refine g_getR fdX16_54 dX16_global_1 ?_
  refine g_getR fdX16_267 dX16_global_4 ?_
  refine g_aload_n 0 0 dX16_global_7 rfl rfl ?_
  refine g_callV (fc := fun sς => Run_instance sς x0 ) (ci := 16) (as := []) rfl rfl rfl q2732 qs185 mdX16_211 (ctX16_instance x0 ) rfl (Nat.le_of_ble_eq_true rfl) (Nat.le_of_ble_eq_true rfl) (Nat.le_of_ble_eq_true rfl) pu_I dX16_global_8 (fun r2 σ1 => ?_)
  refine g_aaload 4 rfl dX16_global_11 ?_
  refine g_iload_n 1 1 dX16_global_12 rfl rfl ?_
  refine g_callV (fc := fun sς => Row_at sς (gR σ1 (gR σ (gR σ x0 3) 18) (ix r2)) x1) (ci := 3) (as := [iv x1]) rfl rfl rfl q1409 q1410 mdX16_101 (ctX3_at (gR σ1 (gR σ (gR σ x0 3) 18) (ix r2)) x1) rfl (Nat.le_of_ble_eq_true rfl) (Nat.le_of_ble_eq_true rfl) (Nat.le_of_ble_eq_true rfl) pu_I dX16_global_13 (fun r4 σ3 => ?_)
  exact g_ireturn rfl dX16_global_16
theorem V.dX16_memory_0 : decode cX16_memory 0 = .ok (.aload_n 0, 1) := by decide +kernel
theorem V.dX16_memory_1 : decode cX16_memory 1 = .ok (.getfield 54, 3) := by decide +kernel
theorem V.dX16_memory_4 : decode cX16_memory 4 = .ok (.getfield 240, 3) := by decide +kernel
theorem V.dX16_memory_7 : decode cX16_memory 7 = .ok (.aload_n 0, 1) := by decide +kernel
theorem V.dX16_memory_8 : decode cX16_memory 8 = .ok (.invokevirtual 211, 3) := by decide +kernel
theorem V.dX16_memory_11 : decode cX16_memory 11 = .ok (.aaload, 1) := by decide +kernel
theorem V.dX16_memory_12 : decode cX16_memory 12 = .ok (.iconst 0, 1) := by decide +kernel
theorem V.dX16_memory_13 : decode cX16_memory 13 = .ok (.invokevirtual 101, 3) := by decide +kernel
theorem V.dX16_memory_16 : decode cX16_memory 16 = .ok (.ireturn, 1) := by decide +kernel
theorem V.fdX16_240 : FD RX16 240 13 17 2 := ⟨(RX13, TX13, 27), tyX13, rfl, rfl, in_X13, by decide, Or.inr ⟨_, q1047⟩, rfl⟩
/-! ModuleEngine$Runner.memory()I -/
def V.Run_memory (σ : HS) (x0 : Nat) : Option (Int32 × HS) :=
  ck (tg σ x0 = 17) <|
  ck (tg σ (gR σ x0 3) = 14) <|
  ck (tg σ x0 = 17) <| cl (Run_instance σ x0 ) fun r2 σ1 =>
  ck (tg σ1 (gR σ (gR σ x0 3) 17) = 104 ∧ inb r2 (ln σ1 (gR σ (gR σ x0 3) 17))) <|
  ck (tg σ1 (gR σ1 (gR σ (gR σ x0 3) 17) (ix r2)) = 4) <| cl (Row_at σ1 (gR σ1 (gR σ (gR σ x0 3) 17) (ix r2)) (0 : Int32)) fun r4 σ3 =>
  some (r4, σ3)
theorem V.ctX16_memory (x0 : Nat) : Ct yX16_memory  cX16_memory 1 (some .int) 2 41 eI [av x0] (fun σ => Run_memory σ x0) := by
  refine Ct.of (own := RX16) (nm := "memory") (desc := "()I") rfl (by decide) (Nat.le_of_ble_eq_true rfl) (by decide) (fun X σ => ?_)
  show G X RX16 "memory" cX16_memory 1 (some .int) 2 41 enI 0 [(0, av x0)] [] σ (Run_memory σ x0)
  unfold Run_memory
  refine g_aload_n 0 0 dX16_memory_0 rfl rfl ?_
  refine g_getR fdX16_54 dX16_memory_1 ?_
  refine g_getR fdX16_240 dX16_memory_4 ?_
  refine g_aload_n 0 0 dX16_memory_7 rfl rfl ?_
  refine g_callV (fc := fun sς => Run_instance sς x0 ) (ci := 16) (as := []) rfl rfl rfl q2732 qs185 mdX16_211 (ctX16_instance x0 ) rfl (Nat.le_of_ble_eq_true rfl) (Nat.le_of_ble_eq_true rfl) (Nat.le_of_ble_eq_true rfl) pu_I dX16_memory_8 (fun r2 σ1 => ?_)
  refine g_aaload 4 rfl dX16_memory_11 ?_
  refine g_iconst (v := 0) dX16_memory_12 (by decide) ?_
  refine g_callV (fc := fun sς => Row_at sς (gR σ1 (gR σ (gR σ x0 3) 17) (ix r2)) (0 : Int32)) (ci := 3) (as := [iv (0 : Int32)]) rfl rfl rfl q1409 q1410 mdX16_101 (ctX3_at (gR σ1 (gR σ (gR σ x0 3) 17) (ix r2)) (0 : Int32)) rfl (Nat.le_of_ble_eq_true rfl) (Nat.le_of_ble_eq_true rfl) (Nat.le_of_ble_eq_true rfl) pu_I dX16_memory_13 (fun r4 σ3 => ?_)
  exact g_ireturn rfl dX16_memory_16
theorem V.dX16_grow_0 : decode cX16_grow 0 = .ok (.aload_n 0, 1) := by decide +kernel
theorem V.dX16_grow_1 : decode cX16_grow 1 = .ok (.getfield 54, 3) := by decide +kernel
theorem V.dX16_grow_4 : decode cX16_grow 4 = .ok (.getfield 246, 3) := by decide +kernel
theorem V.dX16_grow_7 : decode cX16_grow 7 = .ok (.aload_n 0, 1) := by decide +kernel
theorem V.dX16_grow_8 : decode cX16_grow 8 = .ok (.invokevirtual 250, 3) := by decide +kernel
theorem V.dX16_grow_11 : decode cX16_grow 11 = .ok (.lload_n 1, 1) := by decide +kernel
theorem V.dX16_grow_12 : decode cX16_grow 12 = .ok (.invokevirtual 264, 3) := by decide +kernel
theorem V.dX16_grow_15 : decode cX16_grow 15 = .ok (.i2l, 1) := by decide +kernel
theorem V.dX16_grow_16 : decode cX16_grow 16 = .ok (.ldc2_w 262, 3) := by decide +kernel
theorem V.dX16_grow_19 : decode cX16_grow 19 = .ok (.land, 1) := by decide +kernel
theorem V.dX16_grow_20 : decode cX16_grow 20 = .ok (.lreturn, 1) := by decide +kernel
theorem V.fdX16_246 : FD RX16 246 13 8 2 := ⟨(RX13, TX13, 27), tyX13, rfl, rfl, in_X13, by decide, Or.inr ⟨_, q1032⟩, rfl⟩
theorem V.mdX16_250 : MD RX16 250 yX16_memory cX16_memory 1 (some .int) 0 := ⟨Or.inl q2752, q376, q2755, by decide, by decide, by decide +kernel⟩
theorem V.mdX16_264 : MD RX16 264 yX15_grow cX15_grow 5 (some .int) 2 := ⟨Or.inl q2761, q375, q2764, by decide, by decide, by decide +kernel⟩
/-! ModuleEngine$Runner.grow(J)J -/
def V.Run_grow (σ : HS) (x0 : Nat) (x1 : Int64) : Option (Int64 × HS) :=
  ck (tg σ x0 = 17) <|
  ck (tg σ (gR σ x0 3) = 14) <|
  ck (tg σ x0 = 17) <| cl (Run_memory σ x0 ) fun r2 σ1 =>
  ck (tg σ1 (gR σ (gR σ x0 3) 8) = 16) <| cl (Pag_grow σ1 (gR σ (gR σ x0 3) 8) r2 x1) fun r4 σ3 =>
  some (r4.toInt64 &&& (4294967295 : Int64), σ3)
theorem V.ctX16_grow (x0 : Nat) (x1 : Int64) : Ct yX16_grow  cX16_grow 3 (some .long) 3 61 eJ [av x0, jv x1] (fun σ => Run_grow σ x0 x1) := by
  refine Ct.of (own := RX16) (nm := "grow") (desc := "(J)J") rfl (by decide) (Nat.le_of_ble_eq_true rfl) (by decide) (fun X σ => ?_)
  show G X RX16 "grow" cX16_grow 3 (some .long) 3 61 enJ 0 [(0, av x0), (1, jv x1)] [] σ (Run_grow σ x0 x1)
  unfold Run_grow
  refine g_aload_n 0 0 dX16_grow_0 rfl rfl ?_
  refine g_getR fdX16_54 dX16_grow_1 ?_
  refine g_getR fdX16_246 dX16_grow_4 ?_
  refine g_aload_n 0 0 dX16_grow_7 rfl rfl ?_
  refine g_callV (fc := fun sς => Run_memory sς x0 ) (ci := 16) (as := []) rfl rfl rfl q2754 qs189 mdX16_250 (ctX16_memory x0 ) rfl (Nat.le_of_ble_eq_true rfl) (Nat.le_of_ble_eq_true rfl) (Nat.le_of_ble_eq_true rfl) pu_I dX16_grow_8 (fun r2 σ1 => ?_)
  refine g_lload_n 1 1 dX16_grow_11 rfl rfl ?_
  refine g_callV (fc := fun sς => Pag_grow sς (gR σ (gR σ x0 3) 8) r2 x1) (ci := 15) (as := [iv r2, jv x1]) rfl rfl rfl q2762 q2763 mdX16_264 (ctX15_grow (gR σ (gR σ x0 3) 8) r2 x1) rfl (Nat.le_of_ble_eq_true rfl) (Nat.le_of_ble_eq_true rfl) (Nat.le_of_ble_eq_true rfl) pu_I dX16_grow_12 (fun r4 σ3 => ?_)
  refine g_i2l dX16_grow_15 ?_
  refine g_ldc2 q2717 dX16_grow_16 ?_
  refine g_land dX16_grow_19 ?_
  exact g_lreturn rfl dX16_grow_20
theorem V.dX16_entry_0 : decode cX16_entry 0 = .ok (.lload_n 3, 1) := by decide +kernel
theorem V.dX16_entry_1 : decode cX16_entry 1 = .ok (.aload_n 0, 1) := by decide +kernel
theorem V.dX16_entry_2 : decode cX16_entry 2 = .ok (.getfield 54, 3) := by decide +kernel
theorem V.dX16_entry_5 : decode cX16_entry 5 = .ok (.getfield 217, 3) := by decide +kernel
theorem V.dX16_entry_8 : decode cX16_entry 8 = .ok (.iload_n 2, 1) := by decide +kernel
theorem V.dX16_entry_9 : decode cX16_entry 9 = .ok (.invokevirtual 221, 3) := by decide +kernel
theorem V.dX16_entry_12 : decode cX16_entry 12 = .ok (.i2l, 1) := by decide +kernel
theorem V.dX16_entry_13 : decode cX16_entry 13 = .ok (.lcmp, 1) := by decide +kernel
theorem V.dX16_entry_14 : decode cX16_entry 14 = .ok (.ifCond .lt 12, 3) := by decide +kernel
theorem V.dX16_entry_17 : decode cX16_entry 17 = .ok (.aload_n 0, 1) := by decide +kernel
theorem V.dX16_entry_18 : decode cX16_entry 18 = .ok (.bipush 6, 2) := by decide +kernel
theorem V.dX16_entry_20 : decode cX16_entry 20 = .ok (.invokevirtual 226, 3) := by decide +kernel
theorem V.dX16_entry_23 : decode cX16_entry 23 = .ok (.goto 54, 3) := by decide +kernel
theorem V.dX16_entry_26 : decode cX16_entry 26 = .ok (.iload_n 1, 1) := by decide +kernel
theorem V.dX16_entry_27 : decode cX16_entry 27 = .ok (.bipush 37, 2) := by decide +kernel
theorem V.dX16_entry_29 : decode cX16_entry 29 = .ok (.if_icmp .ne 26, 3) := by decide +kernel
theorem V.dX16_entry_32 : decode cX16_entry 32 = .ok (.aload_n 0, 1) := by decide +kernel
theorem V.dX16_entry_33 : decode cX16_entry 33 = .ok (.getfield 9, 3) := by decide +kernel
theorem V.dX16_entry_36 : decode cX16_entry 36 = .ok (.iload 5, 2) := by decide +kernel
theorem V.dX16_entry_38 : decode cX16_entry 38 = .ok (.aload_n 0, 1) := by decide +kernel
theorem V.dX16_entry_39 : decode cX16_entry 39 = .ok (.getfield 54, 3) := by decide +kernel
theorem V.dX16_entry_42 : decode cX16_entry 42 = .ok (.getfield 217, 3) := by decide +kernel
theorem V.dX16_entry_45 : decode cX16_entry 45 = .ok (.iload_n 2, 1) := by decide +kernel
theorem V.dX16_entry_46 : decode cX16_entry 46 = .ok (.lload_n 3, 1) := by decide +kernel
theorem V.dX16_entry_47 : decode cX16_entry 47 = .ok (.invokevirtual 229, 3) := by decide +kernel
theorem V.dX16_entry_50 : decode cX16_entry 50 = .ok (.i2l, 1) := by decide +kernel
theorem V.dX16_entry_51 : decode cX16_entry 51 = .ok (.lastore, 1) := by decide +kernel
theorem V.dX16_entry_52 : decode cX16_entry 52 = .ok (.goto 25, 3) := by decide +kernel
theorem V.dX16_entry_55 : decode cX16_entry 55 = .ok (.aload_n 0, 1) := by decide +kernel
theorem V.dX16_entry_56 : decode cX16_entry 56 = .ok (.getfield 54, 3) := by decide +kernel
theorem V.dX16_entry_59 : decode cX16_entry 59 = .ok (.getfield 217, 3) := by decide +kernel
theorem V.dX16_entry_62 : decode cX16_entry 62 = .ok (.iload_n 2, 1) := by decide +kernel
theorem V.dX16_entry_63 : decode cX16_entry 63 = .ok (.lload_n 3, 1) := by decide +kernel
theorem V.dX16_entry_64 : decode cX16_entry 64 = .ok (.aload_n 0, 1) := by decide +kernel
theorem V.dX16_entry_65 : decode cX16_entry 65 = .ok (.getfield 9, 3) := by decide +kernel
theorem V.dX16_entry_68 : decode cX16_entry 68 = .ok (.iload 5, 2) := by decide +kernel
theorem V.dX16_entry_70 : decode cX16_entry 70 = .ok (.iconst 1, 1) := by decide +kernel
theorem V.dX16_entry_71 : decode cX16_entry 71 = .ok (.iadd, 1) := by decide +kernel
theorem V.dX16_entry_72 : decode cX16_entry 72 = .ok (.laload, 1) := by decide +kernel
theorem V.dX16_entry_73 : decode cX16_entry 73 = .ok (.l2i, 1) := by decide +kernel
theorem V.dX16_entry_74 : decode cX16_entry 74 = .ok (.invokevirtual 306, 3) := by decide +kernel
theorem V.dX16_entry_77 : decode cX16_entry 77 = .ok (.return_, 1) := by decide +kernel
theorem V.mdX16_306 : MD RX16 306 yX14_put cX14_put 5 none 3 := ⟨Or.inl q2774, q374, q2329, by decide, by decide, by decide +kernel⟩
/-! ModuleEngine$Runner.entry(IIJI)V -/
def V.Run_entry (σ : HS) (x0 : Nat) (x1 : Int32) (x2 : Int32) (x3 : Int64) (x5 : Int32) : Option (Unit × HS) :=
  ck (tg σ x0 = 17) <|
  ck (tg σ (gR σ x0 3) = 14) <|
  ck (tg σ (gR σ (gR σ x0 3) 7) = 15) <| cl (Tab_size σ (gR σ (gR σ x0 3) 7) x2) fun r2 σ1 =>
  if x3 < r2.toInt64 then (
    if x1 = (37 : Int32) then (
      ck (tg σ1 x0 = 17) <|
      ck (tg σ1 x0 = 17) <|
      ck (tg σ1 (gR σ1 x0 3) = 14) <|
      ck (tg σ1 (gR σ1 (gR σ1 x0 3) 7) = 15) <| cl (Tab_get σ1 (gR σ1 (gR σ1 x0 3) 7) x2 x3) fun r5 σ4 =>
      ck (tg σ4 (gR σ1 x0 4) = 101 ∧ inb x5 (ln σ4 (gR σ1 x0 4))) <| bn (sJ σ4 (gR σ1 x0 4) (ix x5) r5.toInt64) fun σ6 =>
      some ((), σ6))
    else (
      ck (tg σ1 x0 = 17) <|
      ck (tg σ1 (gR σ1 x0 3) = 14) <|
      ck (tg σ1 x0 = 17) <|
      ck (tg σ1 (gR σ1 x0 4) = 101 ∧ inb (x5 + (1 : Int32)) (ln σ1 (gR σ1 x0 4))) <|
      ck (tg σ1 (gR σ1 (gR σ1 x0 3) 7) = 15) <| cl (Tab_put σ1 (gR σ1 (gR σ1 x0 3) 7) x2 x3 ((gJ σ1 (gR σ1 x0 4) (ix (x5 + (1 : Int32)))).toInt32)) fun _ σ3 =>
      some ((), σ3)))
  else (
    ck (tg σ1 x0 = 17) <| cl (Run_stop σ1 x0 (6 : Int32)) fun _ σ7 =>
    some ((), σ7))
theorem V.ctX16_entry (x0 : Nat) (x1 : Int32) (x2 : Int32) (x3 : Int64) (x5 : Int32) : Ct yX16_entry  cX16_entry 6 none 1 24 eV [av x0, iv x1, iv x2, jv x3, iv x5] (fun σ => Run_entry σ x0 x1 x2 x3 x5) := by
  refine Ct.of (own := RX16) (nm := "entry") (desc := "(IIJI)V") rfl (by decide) (Nat.le_of_ble_eq_true rfl) (by decide) (fun X σ => ?_)
  show G X RX16 "entry" cX16_entry 6 none 1 24 enV 0 [(0, av x0), (1, iv x1), (2, iv x2), (3, jv x3), (5, iv x5)] [] σ (Run_entry σ x0 x1 x2 x3 x5)
  unfold Run_entry
  refine g_lload_n 3 3 dX16_entry_0 rfl rfl ?_
  refine g_aload_n 0 0 dX16_entry_1 rfl rfl ?_
  refine g_getR fdX16_54 dX16_entry_2 ?_
  refine g_getR fdX16_217 dX16_entry_5 ?_
  refine g_iload_n 2 2 dX16_entry_8 rfl rfl ?_
  refine g_callV (fc := fun sς => Tab_size sς (gR σ (gR σ x0 3) 7) x2) (ci := 14) (as := [iv x2]) rfl rfl rfl q2216 q2217 mdX16_221 (ctX14_size (gR σ (gR σ x0 3) 7) x2) rfl (Nat.le_of_ble_eq_true rfl) (Nat.le_of_ble_eq_true rfl) (Nat.le_of_ble_eq_true rfl) pu_I dX16_entry_9 (fun r2 σ1 => ?_)
  refine g_i2l dX16_entry_12 ?_
  refine g_lcmp_lt 26 dX16_entry_13 dX16_entry_14 (by decide) ?_ ?_
  · refine g_iload_n 1 1 dX16_entry_26 rfl rfl ?_
    refine g_bipush (v := 37) dX16_entry_27 (by decide) ?_
    refine g_icmp_ne 55 dX16_entry_29 (by decide) ?_ ?_
    · refine g_aload_n 0 0 dX16_entry_55 rfl rfl ?_
      refine g_getR fdX16_54 dX16_entry_56 ?_
      refine g_getR fdX16_217 dX16_entry_59 ?_
      refine g_iload_n 2 2 dX16_entry_62 rfl rfl ?_
      refine g_lload_n 3 3 dX16_entry_63 rfl rfl ?_
      refine g_aload_n 0 0 dX16_entry_64 rfl rfl ?_
      refine g_getR fdX16_9 dX16_entry_65 ?_
      refine g_iload 4 dX16_entry_68 rfl ?_
      refine g_iconst (v := 1) dX16_entry_70 (by decide) ?_
      refine g_iadd dX16_entry_71 ?_
      refine g_laload dX16_entry_72 ?_
      refine g_l2i dX16_entry_73 ?_
      refine g_callV (fc := fun sς => Tab_put sς (gR σ1 (gR σ1 x0 3) 7) x2 x3 ((gJ σ1 (gR σ1 x0 4) (ix (x5 + (1 : Int32)))).toInt32)) (ci := 14) (as := [iv x2, jv x3, iv ((gJ σ1 (gR σ1 x0 4) (ix (x5 + (1 : Int32)))).toInt32)]) rfl rfl rfl q2327 q2328 mdX16_306 (ctX14_put (gR σ1 (gR σ1 x0 3) 7) x2 x3 ((gJ σ1 (gR σ1 x0 4) (ix (x5 + (1 : Int32)))).toInt32)) rfl (Nat.le_of_ble_eq_true rfl) (Nat.le_of_ble_eq_true rfl) (Nat.le_of_ble_eq_true rfl) pu_V dX16_entry_74 (fun _ σ3 => ?_)
      exact g_return rfl dX16_entry_77
    · refine g_aload_n 0 0 dX16_entry_32 rfl rfl ?_
      refine g_getR fdX16_9 dX16_entry_33 ?_
      refine g_iload 4 dX16_entry_36 rfl ?_
      refine g_aload_n 0 0 dX16_entry_38 rfl rfl ?_
      refine g_getR fdX16_54 dX16_entry_39 ?_
      refine g_getR fdX16_217 dX16_entry_42 ?_
      refine g_iload_n 2 2 dX16_entry_45 rfl rfl ?_
      refine g_lload_n 3 3 dX16_entry_46 rfl rfl ?_
      refine g_callV (fc := fun sς => Tab_get sς (gR σ1 (gR σ1 x0 3) 7) x2 x3) (ci := 14) (as := [iv x2, jv x3]) rfl rfl rfl q2740 q2741 mdX16_229 (ctX14_get (gR σ1 (gR σ1 x0 3) 7) x2 x3) rfl (Nat.le_of_ble_eq_true rfl) (Nat.le_of_ble_eq_true rfl) (Nat.le_of_ble_eq_true rfl) pu_I dX16_entry_47 (fun r5 σ4 => ?_)
      refine g_i2l dX16_entry_50 ?_
      refine g_lastore dX16_entry_51 (fun σ6 => ?_)
      refine g_goto 77 dX16_entry_52 (by decide) ?_
      exact g_return rfl dX16_entry_77
  · refine g_aload_n 0 0 dX16_entry_17 rfl rfl ?_
    refine g_bipush (v := 6) dX16_entry_18 (by decide) ?_
    refine g_callV (fc := fun sς => Run_stop sς x0 (6 : Int32)) (ci := 16) (as := [iv (6 : Int32)]) rfl rfl rfl q2364 q2365 mdX16_226 (ctX16_stop x0 (6 : Int32)) rfl (Nat.le_of_ble_eq_true rfl) (Nat.le_of_ble_eq_true rfl) (Nat.le_of_ble_eq_true rfl) pu_V dX16_entry_20 (fun _ σ7 => ?_)
    refine g_goto 77 dX16_entry_23 (by decide) ?_
    exact g_return rfl dX16_entry_77
theorem V.dX16_stretch_0 : decode cX16_stretch 0 = .ok (.aload_n 0, 1) := by decide +kernel
theorem V.dX16_stretch_1 : decode cX16_stretch 1 = .ok (.invokevirtual 250, 3) := by decide +kernel
theorem V.dX16_stretch_4 : decode cX16_stretch 4 = .ok (.istore 8, 2) := by decide +kernel
theorem V.dX16_stretch_6 : decode cX16_stretch 6 = .ok (.aload_n 0, 1) := by decide +kernel
theorem V.dX16_stretch_7 : decode cX16_stretch 7 = .ok (.getfield 54, 3) := by decide +kernel
theorem V.dX16_stretch_10 : decode cX16_stretch 10 = .ok (.getfield 246, 3) := by decide +kernel
theorem V.dX16_stretch_13 : decode cX16_stretch 13 = .ok (.iload 8, 2) := by decide +kernel
theorem V.dX16_stretch_15 : decode cX16_stretch 15 = .ok (.invokevirtual 253, 3) := by decide +kernel
theorem V.dX16_stretch_18 : decode cX16_stretch 18 = .ok (.lstore 9, 2) := by decide +kernel
theorem V.dX16_stretch_20 : decode cX16_stretch 20 = .ok (.iload_n 1, 1) := by decide +kernel
theorem V.dX16_stretch_21 : decode cX16_stretch 21 = .ok (.sipush 267, 3) := by decide +kernel
theorem V.dX16_stretch_24 : decode cX16_stretch 24 = .ok (.if_icmp .ne 7, 3) := by decide +kernel
theorem V.dX16_stretch_27 : decode cX16_stretch 27 = .ok (.iconst 1, 1) := by decide +kernel
theorem V.dX16_stretch_28 : decode cX16_stretch 28 = .ok (.goto 4, 3) := by decide +kernel
theorem V.dX16_stretch_31 : decode cX16_stretch 31 = .ok (.iconst 0, 1) := by decide +kernel
theorem V.dX16_stretch_32 : decode cX16_stretch 32 = .ok (.istore 11, 2) := by decide +kernel
theorem V.dX16_stretch_34 : decode cX16_stretch 34 = .ok (.lload_n 2, 1) := by decide +kernel
theorem V.dX16_stretch_35 : decode cX16_stretch 35 = .ok (.lload 6, 2) := by decide +kernel
theorem V.dX16_stretch_37 : decode cX16_stretch 37 = .ok (.ladd, 1) := by decide +kernel
theorem V.dX16_stretch_38 : decode cX16_stretch 38 = .ok (.lload 9, 2) := by decide +kernel
theorem V.dX16_stretch_40 : decode cX16_stretch 40 = .ok (.lcmp, 1) := by decide +kernel
theorem V.dX16_stretch_41 : decode cX16_stretch 41 = .ok (.ifCond .gt 23, 3) := by decide +kernel
theorem V.dX16_stretch_44 : decode cX16_stretch 44 = .ok (.iload 11, 2) := by decide +kernel
theorem V.dX16_stretch_46 : decode cX16_stretch 46 = .ok (.ifCond .ne 26, 3) := by decide +kernel
theorem V.dX16_stretch_49 : decode cX16_stretch 49 = .ok (.lload 4, 2) := by decide +kernel
theorem V.dX16_stretch_51 : decode cX16_stretch 51 = .ok (.ldc2_w 262, 3) := by decide +kernel
theorem V.dX16_stretch_54 : decode cX16_stretch 54 = .ok (.land, 1) := by decide +kernel
theorem V.dX16_stretch_55 : decode cX16_stretch 55 = .ok (.lload 6, 2) := by decide +kernel
theorem V.dX16_stretch_57 : decode cX16_stretch 57 = .ok (.ladd, 1) := by decide +kernel
theorem V.dX16_stretch_58 : decode cX16_stretch 58 = .ok (.lload 9, 2) := by decide +kernel
theorem V.dX16_stretch_60 : decode cX16_stretch 60 = .ok (.lcmp, 1) := by decide +kernel
theorem V.dX16_stretch_61 : decode cX16_stretch 61 = .ok (.ifCond .le 11, 3) := by decide +kernel
theorem V.dX16_stretch_64 : decode cX16_stretch 64 = .ok (.aload_n 0, 1) := by decide +kernel
theorem V.dX16_stretch_65 : decode cX16_stretch 65 = .ok (.iconst 5, 1) := by decide +kernel
theorem V.dX16_stretch_66 : decode cX16_stretch 66 = .ok (.invokevirtual 226, 3) := by decide +kernel
theorem V.dX16_stretch_69 : decode cX16_stretch 69 = .ok (.goto 71, 3) := by decide +kernel
theorem V.dX16_stretch_72 : decode cX16_stretch 72 = .ok (.iload 11, 2) := by decide +kernel
theorem V.dX16_stretch_74 : decode cX16_stretch 74 = .ok (.ifCond .eq 45, 3) := by decide +kernel
theorem V.dX16_stretch_77 : decode cX16_stretch 77 = .ok (.lconst 0, 1) := by decide +kernel
theorem V.dX16_stretch_78 : decode cX16_stretch 78 = .ok (.lstore 12, 2) := by decide +kernel
theorem V.dX16_stretch_80 : decode cX16_stretch 80 = .ok (.lload 12, 2) := by decide +kernel
theorem V.dX16_stretch_82 : decode cX16_stretch 82 = .ok (.lload 6, 2) := by decide +kernel
theorem V.dX16_stretch_84 : decode cX16_stretch 84 = .ok (.lcmp, 1) := by decide +kernel
theorem V.dX16_stretch_85 : decode cX16_stretch 85 = .ok (.ifCond .ge 31, 3) := by decide +kernel
theorem V.dX16_stretch_88 : decode cX16_stretch 88 = .ok (.aload_n 0, 1) := by decide +kernel
theorem V.dX16_stretch_89 : decode cX16_stretch 89 = .ok (.getfield 54, 3) := by decide +kernel
theorem V.dX16_stretch_92 : decode cX16_stretch 92 = .ok (.getfield 246, 3) := by decide +kernel
theorem V.dX16_stretch_95 : decode cX16_stretch 95 = .ok (.iload 8, 2) := by decide +kernel
theorem V.dX16_stretch_97 : decode cX16_stretch 97 = .ok (.lload_n 2, 1) := by decide +kernel
theorem V.dX16_stretch_98 : decode cX16_stretch 98 = .ok (.lload 12, 2) := by decide +kernel
theorem V.dX16_stretch_100 : decode cX16_stretch 100 = .ok (.ladd, 1) := by decide +kernel
theorem V.dX16_stretch_101 : decode cX16_stretch 101 = .ok (.lload 4, 2) := by decide +kernel
theorem V.dX16_stretch_103 : decode cX16_stretch 103 = .ok (.l2i, 1) := by decide +kernel
theorem V.dX16_stretch_104 : decode cX16_stretch 104 = .ok (.invokevirtual 310, 3) := by decide +kernel
theorem V.dX16_stretch_107 : decode cX16_stretch 107 = .ok (.lload 12, 2) := by decide +kernel
theorem V.dX16_stretch_109 : decode cX16_stretch 109 = .ok (.lconst 1, 1) := by decide +kernel
theorem V.dX16_stretch_110 : decode cX16_stretch 110 = .ok (.ladd, 1) := by decide +kernel
theorem V.dX16_stretch_111 : decode cX16_stretch 111 = .ok (.lstore 12, 2) := by decide +kernel
theorem V.dX16_stretch_113 : decode cX16_stretch 113 = .ok (.goto (-33), 3) := by decide +kernel
theorem V.dX16_stretch_116 : decode cX16_stretch 116 = .ok (.goto 24, 3) := by decide +kernel
theorem V.dX16_stretch_119 : decode cX16_stretch 119 = .ok (.aload_n 0, 1) := by decide +kernel
theorem V.dX16_stretch_120 : decode cX16_stretch 120 = .ok (.getfield 54, 3) := by decide +kernel
theorem V.dX16_stretch_123 : decode cX16_stretch 123 = .ok (.getfield 246, 3) := by decide +kernel
theorem V.dX16_stretch_126 : decode cX16_stretch 126 = .ok (.iload 8, 2) := by decide +kernel
theorem V.dX16_stretch_128 : decode cX16_stretch 128 = .ok (.lload_n 2, 1) := by decide +kernel
theorem V.dX16_stretch_129 : decode cX16_stretch 129 = .ok (.lload 4, 2) := by decide +kernel
theorem V.dX16_stretch_131 : decode cX16_stretch 131 = .ok (.ldc2_w 262, 3) := by decide +kernel
theorem V.dX16_stretch_134 : decode cX16_stretch 134 = .ok (.land, 1) := by decide +kernel
theorem V.dX16_stretch_135 : decode cX16_stretch 135 = .ok (.lload 6, 2) := by decide +kernel
theorem V.dX16_stretch_137 : decode cX16_stretch 137 = .ok (.invokevirtual 311, 3) := by decide +kernel
theorem V.dX16_stretch_140 : decode cX16_stretch 140 = .ok (.return_, 1) := by decide +kernel
theorem V.mdX16_253 : MD RX16 253 yX15_end cX15_end 2 (some .long) 1 := ⟨Or.inl q2781, q375, q2342, by decide, by decide, by decide +kernel⟩
theorem V.mdX16_311 : MD RX16 311 yX15_move cX15_move 10 none 4 := ⟨Or.inl q2783, q375, q2786, by decide, by decide, by decide +kernel⟩
theorem V.mdX16_310 : MD RX16 310 yX15_put cX15_put 5 none 3 := ⟨Or.inl q2782, q375, q2346, by decide, by decide, by decide +kernel⟩
/-! ModuleEngine$Runner.stretch(IJJJ)V -/
def V.Run_stretch_p64  (σ : HS) (x0 : Nat) : Option (Unit × HS) :=
  ck (tg σ x0 = 17) <| cl (Run_stop σ x0 (5 : Int32)) fun _ σ1 =>
  some ((), σ1)
theorem V.gX16_stretch_p64 {X : CX}  (σ : HS) (x0 : Nat) : G X RX16 "stretch" cX16_stretch 14 none 3 76 enV 64 [(0, av x0)] [] σ (Run_stretch_p64 σ x0) := by
  unfold Run_stretch_p64
  refine g_aload_n 0 0 dX16_stretch_64 rfl rfl ?_
  refine g_iconst (v := 5) dX16_stretch_65 (by decide) ?_
  refine g_callV (fc := fun sς => Run_stop sς x0 (5 : Int32)) (ci := 16) (as := [iv (5 : Int32)]) rfl rfl rfl q2364 q2365 mdX16_226 (ctX16_stop x0 (5 : Int32)) rfl (Nat.le_of_ble_eq_true rfl) (Nat.le_of_ble_eq_true rfl) (Nat.le_of_ble_eq_true rfl) pu_V dX16_stretch_66 (fun _ σ1 => ?_)
  refine g_goto 140 dX16_stretch_69 (by decide) ?_
  exact g_return rfl dX16_stretch_140
def V.Run_stretch_p80  : Nat → HS → Nat → Int64 → Int64 → Int64 → Int32 → Int64 → Option (Unit × HS)
  | 0, _, _, _, _, _, _, _ => none
  | n + 1, σ, x0, x2, x4, x6, x8, x12 =>
    if x6 ≤ x12 then (
      some ((), σ))
    else (
      ck (tg σ x0 = 17) <|
      ck (tg σ (gR σ x0 3) = 14) <|
      ck (tg σ (gR σ (gR σ x0 3) 8) = 16) <| cl (Pag_put σ (gR σ (gR σ x0 3) 8) x8 (x2 + x12) x4.toInt32) fun _ σ1 =>
      bn (x12 + (1 : Int64)) fun y2 =>
      Run_stretch_p80 n σ1 x0 x2 x4 x6 x8 y2)
theorem V.gX16_stretch_p80 {X : CX}  : ∀ (n : Nat) (σ : HS) (x0 : Nat) (x2 : Int64) (x4 : Int64) (x6 : Int64) (x8 : Int32) (x12 : Int64), G X RX16 "stretch" cX16_stretch 14 none 3 76 enV 80 [(0, av x0), (2, jv x2), (4, jv x4), (6, jv x6), (8, iv x8), (12, jv x12)] [] σ (Run_stretch_p80 n σ x0 x2 x4 x6 x8 x12)
  | 0, σ, x0, x2, x4, x6, x8, x12 => by rw [Run_stretch_p80]; exact G.nul
  | n + 1, σ, x0, x2, x4, x6, x8, x12 => by
    rw [Run_stretch_p80]
    refine g_lload 5 dX16_stretch_80 rfl ?_
    refine g_lload 3 dX16_stretch_82 rfl ?_
    refine g_lcmp_ge 116 dX16_stretch_84 dX16_stretch_85 (by decide) ?_ ?_
    · refine g_goto 140 dX16_stretch_116 (by decide) ?_
      exact g_return rfl dX16_stretch_140
    · refine g_aload_n 0 0 dX16_stretch_88 rfl rfl ?_
      refine g_getR fdX16_54 dX16_stretch_89 ?_
      refine g_getR fdX16_246 dX16_stretch_92 ?_
      refine g_iload 4 dX16_stretch_95 rfl ?_
      refine g_lload_n 2 1 dX16_stretch_97 rfl rfl ?_
      refine g_lload 5 dX16_stretch_98 rfl ?_
      refine g_ladd dX16_stretch_100 ?_
      refine g_lload 2 dX16_stretch_101 rfl ?_
      refine g_l2i dX16_stretch_103 ?_
      refine g_callV (fc := fun sς => Pag_put sς (gR σ (gR σ x0 3) 8) x8 (x2 + x12) x4.toInt32) (ci := 15) (as := [iv x8, jv (x2 + x12), iv x4.toInt32]) rfl rfl rfl q2344 q2345 mdX16_310 (ctX15_put (gR σ (gR σ x0 3) 8) x8 (x2 + x12) x4.toInt32) rfl (Nat.le_of_ble_eq_true rfl) (Nat.le_of_ble_eq_true rfl) (Nat.le_of_ble_eq_true rfl) pu_V dX16_stretch_104 (fun _ σ1 => ?_)
      refine g_lload 5 dX16_stretch_107 rfl ?_
      refine g_lconst (v := 1) dX16_stretch_109 (by decide) ?_
      refine g_ladd dX16_stretch_110 ?_
      refine g_nmJ (fun y2 => ?_)
      refine g_lstore dX16_stretch_111 (by decide) rfl ?_
      refine g_goto 80 dX16_stretch_113 (by decide) ?_
      refine G.sub [1, 2, 3, 4, 5, 0] rfl ?_
      exact gX16_stretch_p80 n _ _ _ _ _ _ _
def V.Run_stretch_p72  (σ : HS) (x0 : Nat) (x2 : Int64) (x4 : Int64) (x6 : Int64) (x8 : Int32) (x11 : Int32) : Option (Unit × HS) :=
  if x11 = 0 then (
    ck (tg σ x0 = 17) <|
    ck (tg σ (gR σ x0 3) = 14) <|
    ck (tg σ (gR σ (gR σ x0 3) 8) = 16) <| cl (Pag_move σ (gR σ (gR σ x0 3) 8) x8 x2 (x4 &&& (4294967295 : Int64)) x6) fun _ σ1 =>
    some ((), σ1))
  else (
    Run_stretch_p80 FU σ x0 x2 x4 x6 x8 (0 : Int64))
theorem V.gX16_stretch_p72 {X : CX}  (σ : HS) (x0 : Nat) (x2 : Int64) (x4 : Int64) (x6 : Int64) (x8 : Int32) (x11 : Int32) : G X RX16 "stretch" cX16_stretch 14 none 3 76 enV 72 [(0, av x0), (2, jv x2), (4, jv x4), (6, jv x6), (8, iv x8), (11, iv x11)] [] σ (Run_stretch_p72 σ x0 x2 x4 x6 x8 x11) := by
  unfold Run_stretch_p72
  refine g_iload 5 dX16_stretch_72 rfl ?_
  refine g_if_eq 119 dX16_stretch_74 (by decide) ?_ ?_
  · refine g_aload_n 0 0 dX16_stretch_119 rfl rfl ?_
    refine g_getR fdX16_54 dX16_stretch_120 ?_
    refine g_getR fdX16_246 dX16_stretch_123 ?_
    refine g_iload 4 dX16_stretch_126 rfl ?_
    refine g_lload_n 2 1 dX16_stretch_128 rfl rfl ?_
    refine g_lload 2 dX16_stretch_129 rfl ?_
    refine g_ldc2 q2717 dX16_stretch_131 ?_
    refine g_land dX16_stretch_134 ?_
    refine g_lload 3 dX16_stretch_135 rfl ?_
    refine g_callV (fc := fun sς => Pag_move sς (gR σ (gR σ x0 3) 8) x8 x2 (x4 &&& (4294967295 : Int64)) x6) (ci := 15) (as := [iv x8, jv x2, jv (x4 &&& (4294967295 : Int64)), jv x6]) rfl rfl rfl q2784 q2785 mdX16_311 (ctX15_move (gR σ (gR σ x0 3) 8) x8 x2 (x4 &&& (4294967295 : Int64)) x6) rfl (Nat.le_of_ble_eq_true rfl) (Nat.le_of_ble_eq_true rfl) (Nat.le_of_ble_eq_true rfl) pu_V dX16_stretch_137 (fun _ σ1 => ?_)
    exact g_return rfl dX16_stretch_140
  · refine g_lconst (v := 0) dX16_stretch_77 (by decide) ?_
    refine g_lstore dX16_stretch_78 (by decide) rfl ?_
    refine G.sub [1, 2, 3, 4, 5, 0] rfl ?_
    exact gX16_stretch_p80 FU _ _ _ _ _ _ _
def V.Run_stretch_p32  (σ : HS) (x0 : Nat) (x2 : Int64) (x4 : Int64) (x6 : Int64) (x8 : Int32) (x9 : Int64) (s0 : Int32) : Option (Unit × HS) :=
  if x9 < (x2 + x6) then (
    Run_stretch_p64 σ x0)
  else (
    if s0 = 0 then (
      if ((x4 &&& (4294967295 : Int64)) + x6) ≤ x9 then (
        Run_stretch_p72 σ x0 x2 x4 x6 x8 s0)
      else (
        Run_stretch_p64 σ x0))
    else (
      Run_stretch_p72 σ x0 x2 x4 x6 x8 s0))
theorem V.gX16_stretch_p32 {X : CX}  (σ : HS) (x0 : Nat) (x2 : Int64) (x4 : Int64) (x6 : Int64) (x8 : Int32) (x9 : Int64) (s0 : Int32) : G X RX16 "stretch" cX16_stretch 14 none 3 76 enV 32 [(0, av x0), (2, jv x2), (4, jv x4), (6, jv x6), (8, iv x8), (9, jv x9)] [iv s0] σ (Run_stretch_p32 σ x0 x2 x4 x6 x8 x9 s0) := by
  unfold Run_stretch_p32
  refine g_istore dX16_stretch_32 (by decide) rfl ?_
  refine g_lload_n 2 2 dX16_stretch_34 rfl rfl ?_
  refine g_lload 4 dX16_stretch_35 rfl ?_
  refine g_ladd dX16_stretch_37 ?_
  refine g_lload 6 dX16_stretch_38 rfl ?_
  refine g_lcmp_gt 64 dX16_stretch_40 dX16_stretch_41 (by decide) ?_ ?_
  · refine G.sub [1] rfl ?_
    exact gX16_stretch_p64 _ _
  · refine g_iload 0 dX16_stretch_44 rfl ?_
    refine g_if_ne 72 dX16_stretch_46 (by decide) ?_ ?_
    · refine G.sub [1, 2, 3, 4, 5, 0] rfl ?_
      exact gX16_stretch_p72 _ _ _ _ _ _ _
    · refine g_lload 3 dX16_stretch_49 rfl ?_
      refine g_ldc2 q2717 dX16_stretch_51 ?_
      refine g_land dX16_stretch_54 ?_
      refine g_lload 4 dX16_stretch_55 rfl ?_
      refine g_ladd dX16_stretch_57 ?_
      refine g_lload 6 dX16_stretch_58 rfl ?_
      refine g_lcmp_le 72 dX16_stretch_60 dX16_stretch_61 (by decide) ?_ ?_
      · refine G.sub [1, 2, 3, 4, 5, 0] rfl ?_
        exact gX16_stretch_p72 _ _ _ _ _ _ _
      · refine G.sub [1] rfl ?_
        exact gX16_stretch_p64 _ _
def V.Run_stretch (σ : HS) (x0 : Nat) (x1 : Int32) (x2 : Int64) (x4 : Int64) (x6 : Int64) : Option (Unit × HS) :=
  ck (tg σ x0 = 17) <| cl (Run_memory σ x0 ) fun r2 σ1 =>
  ck (tg σ1 x0 = 17) <|
  ck (tg σ1 (gR σ1 x0 3) = 14) <|
  ck (tg σ1 (gR σ1 (gR σ1 x0 3) 8) = 16) <| cl (Pag_end σ1 (gR σ1 (gR σ1 x0 3) 8) r2) fun r4 σ3 =>
  if x1 = (267 : Int32) then (
    Run_stretch_p32 σ3 x0 x2 x4 x6 r2 r4 (1 : Int32))
  else (
    Run_stretch_p32 σ3 x0 x2 x4 x6 r2 r4 (0 : Int32))
theorem V.ctX16_stretch (x0 : Nat) (x1 : Int32) (x2 : Int64) (x4 : Int64) (x6 : Int64) : Ct yX16_stretch  cX16_stretch 14 none 3 76 eV [av x0, iv x1, jv x2, jv x4, jv x6] (fun σ => Run_stretch σ x0 x1 x2 x4 x6) := by
  refine Ct.of (own := RX16) (nm := "stretch") (desc := "(IJJJ)V") rfl (by decide) (Nat.le_of_ble_eq_true rfl) (by decide) (fun X σ => ?_)
  show G X RX16 "stretch" cX16_stretch 14 none 3 76 enV 0 [(0, av x0), (1, iv x1), (2, jv x2), (4, jv x4), (6, jv x6)] [] σ (Run_stretch σ x0 x1 x2 x4 x6)
  unfold Run_stretch
  refine g_aload_n 0 0 dX16_stretch_0 rfl rfl ?_
  refine g_callV (fc := fun sς => Run_memory sς x0 ) (ci := 16) (as := []) rfl rfl rfl q2754 qs189 mdX16_250 (ctX16_memory x0 ) rfl (Nat.le_of_ble_eq_true rfl) (Nat.le_of_ble_eq_true rfl) (Nat.le_of_ble_eq_true rfl) pu_I dX16_stretch_1 (fun r2 σ1 => ?_)
  refine g_istore dX16_stretch_4 (by decide) rfl ?_
  refine g_aload_n 0 1 dX16_stretch_6 rfl rfl ?_
  refine g_getR fdX16_54 dX16_stretch_7 ?_
  refine g_getR fdX16_246 dX16_stretch_10 ?_
  refine g_iload 0 dX16_stretch_13 rfl ?_
  refine g_callV (fc := fun sς => Pag_end sς (gR σ1 (gR σ1 x0 3) 8) r2) (ci := 15) (as := [iv r2]) rfl rfl rfl q2340 q2341 mdX16_253 (ctX15_end (gR σ1 (gR σ1 x0 3) 8) r2) rfl (Nat.le_of_ble_eq_true rfl) (Nat.le_of_ble_eq_true rfl) (Nat.le_of_ble_eq_true rfl) pu_J dX16_stretch_15 (fun r4 σ3 => ?_)
  refine g_lstore dX16_stretch_18 (by decide) rfl ?_
  refine g_iload_n 1 3 dX16_stretch_20 rfl rfl ?_
  refine g_sipush (v := 267) dX16_stretch_21 (by decide) ?_
  refine g_icmp_ne 31 dX16_stretch_24 (by decide) ?_ ?_
  · refine g_iconst (v := 0) dX16_stretch_31 (by decide) ?_
    refine G.sub [2, 4, 5, 6, 1, 0] rfl ?_
    exact gX16_stretch_p32 _ _ _ _ _ _ _ _
  · refine g_iconst (v := 1) dX16_stretch_27 (by decide) ?_
    refine g_goto 32 dX16_stretch_28 (by decide) ?_
    refine G.sub [2, 4, 5, 6, 1, 0] rfl ?_
    exact gX16_stretch_p32 _ _ _ _ _ _ _ _
theorem V.dX16_copyTable_0 : decode cX16_copyTable 0 = .ok (.lload_n 3, 1) := by decide +kernel
theorem V.dX16_copyTable_1 : decode cX16_copyTable 1 = .ok (.lload 7, 2) := by decide +kernel
theorem V.dX16_copyTable_3 : decode cX16_copyTable 3 = .ok (.ladd, 1) := by decide +kernel
theorem V.dX16_copyTable_4 : decode cX16_copyTable 4 = .ok (.aload_n 0, 1) := by decide +kernel
theorem V.dX16_copyTable_5 : decode cX16_copyTable 5 = .ok (.getfield 54, 3) := by decide +kernel
theorem V.dX16_copyTable_8 : decode cX16_copyTable 8 = .ok (.getfield 217, 3) := by decide +kernel
theorem V.dX16_copyTable_11 : decode cX16_copyTable 11 = .ok (.iload_n 1, 1) := by decide +kernel
theorem V.dX16_copyTable_12 : decode cX16_copyTable 12 = .ok (.invokevirtual 221, 3) := by decide +kernel
theorem V.dX16_copyTable_15 : decode cX16_copyTable 15 = .ok (.i2l, 1) := by decide +kernel
theorem V.dX16_copyTable_16 : decode cX16_copyTable 16 = .ok (.lcmp, 1) := by decide +kernel
theorem V.dX16_copyTable_17 : decode cX16_copyTable 17 = .ok (.ifCond .gt 24, 3) := by decide +kernel
theorem V.dX16_copyTable_20 : decode cX16_copyTable 20 = .ok (.lload 5, 2) := by decide +kernel
theorem V.dX16_copyTable_22 : decode cX16_copyTable 22 = .ok (.lload 7, 2) := by decide +kernel
theorem V.dX16_copyTable_24 : decode cX16_copyTable 24 = .ok (.ladd, 1) := by decide +kernel
theorem V.dX16_copyTable_25 : decode cX16_copyTable 25 = .ok (.aload_n 0, 1) := by decide +kernel
theorem V.dX16_copyTable_26 : decode cX16_copyTable 26 = .ok (.getfield 54, 3) := by decide +kernel
theorem V.dX16_copyTable_29 : decode cX16_copyTable 29 = .ok (.getfield 217, 3) := by decide +kernel
theorem V.dX16_copyTable_32 : decode cX16_copyTable 32 = .ok (.iload_n 2, 1) := by decide +kernel
theorem V.dX16_copyTable_33 : decode cX16_copyTable 33 = .ok (.invokevirtual 221, 3) := by decide +kernel
theorem V.dX16_copyTable_36 : decode cX16_copyTable 36 = .ok (.i2l, 1) := by decide +kernel
theorem V.dX16_copyTable_37 : decode cX16_copyTable 37 = .ok (.lcmp, 1) := by decide +kernel
theorem V.dX16_copyTable_38 : decode cX16_copyTable 38 = .ok (.ifCond .le 12, 3) := by decide +kernel
theorem V.dX16_copyTable_41 : decode cX16_copyTable 41 = .ok (.aload_n 0, 1) := by decide +kernel
theorem V.dX16_copyTable_42 : decode cX16_copyTable 42 = .ok (.bipush 6, 2) := by decide +kernel
theorem V.dX16_copyTable_44 : decode cX16_copyTable 44 = .ok (.invokevirtual 226, 3) := by decide +kernel
theorem V.dX16_copyTable_47 : decode cX16_copyTable 47 = .ok (.goto 20, 3) := by decide +kernel
theorem V.dX16_copyTable_50 : decode cX16_copyTable 50 = .ok (.aload_n 0, 1) := by decide +kernel
theorem V.dX16_copyTable_51 : decode cX16_copyTable 51 = .ok (.getfield 54, 3) := by decide +kernel
theorem V.dX16_copyTable_54 : decode cX16_copyTable 54 = .ok (.getfield 217, 3) := by decide +kernel
theorem V.dX16_copyTable_57 : decode cX16_copyTable 57 = .ok (.iload_n 1, 1) := by decide +kernel
theorem V.dX16_copyTable_58 : decode cX16_copyTable 58 = .ok (.iload_n 2, 1) := by decide +kernel
theorem V.dX16_copyTable_59 : decode cX16_copyTable 59 = .ok (.lload_n 3, 1) := by decide +kernel
theorem V.dX16_copyTable_60 : decode cX16_copyTable 60 = .ok (.lload 5, 2) := by decide +kernel
theorem V.dX16_copyTable_62 : decode cX16_copyTable 62 = .ok (.lload 7, 2) := by decide +kernel
theorem V.dX16_copyTable_64 : decode cX16_copyTable 64 = .ok (.invokevirtual 314, 3) := by decide +kernel
theorem V.dX16_copyTable_67 : decode cX16_copyTable 67 = .ok (.return_, 1) := by decide +kernel
theorem V.mdX16_314 : MD RX16 314 yX14_move cX14_move 14 none 5 := ⟨Or.inl q2798, q374, q2801, by decide, by decide, by decide +kernel⟩
/-! ModuleEngine$Runner.copyTable(IIJJJ)V -/
def V.Run_copyTable_p41  (σ : HS) (x0 : Nat) : Option (Unit × HS) :=
  ck (tg σ x0 = 17) <| cl (Run_stop σ x0 (6 : Int32)) fun _ σ1 =>
  some ((), σ1)
theorem V.gX16_copyTable_p41 {X : CX}  (σ : HS) (x0 : Nat) : G X RX16 "copyTable" cX16_copyTable 9 none 2 57 enV 41 [(0, av x0)] [] σ (Run_copyTable_p41 σ x0) := by
  unfold Run_copyTable_p41
  refine g_aload_n 0 0 dX16_copyTable_41 rfl rfl ?_
  refine g_bipush (v := 6) dX16_copyTable_42 (by decide) ?_
  refine g_callV (fc := fun sς => Run_stop sς x0 (6 : Int32)) (ci := 16) (as := [iv (6 : Int32)]) rfl rfl rfl q2364 q2365 mdX16_226 (ctX16_stop x0 (6 : Int32)) rfl (Nat.le_of_ble_eq_true rfl) (Nat.le_of_ble_eq_true rfl) (Nat.le_of_ble_eq_true rfl) pu_V dX16_copyTable_44 (fun _ σ1 => ?_)
  refine g_goto 67 dX16_copyTable_47 (by decide) ?_
  exact g_return rfl dX16_copyTable_67
def V.Run_copyTable (σ : HS) (x0 : Nat) (x1 : Int32) (x2 : Int32) (x3 : Int64) (x5 : Int64) (x7 : Int64) : Option (Unit × HS) :=
  ck (tg σ x0 = 17) <|
  ck (tg σ (gR σ x0 3) = 14) <|
  ck (tg σ (gR σ (gR σ x0 3) 7) = 15) <| cl (Tab_size σ (gR σ (gR σ x0 3) 7) x1) fun r2 σ1 =>
  if r2.toInt64 < (x3 + x7) then (
    Run_copyTable_p41 σ1 x0)
  else (
    ck (tg σ1 x0 = 17) <|
    ck (tg σ1 (gR σ1 x0 3) = 14) <|
    ck (tg σ1 (gR σ1 (gR σ1 x0 3) 7) = 15) <| cl (Tab_size σ1 (gR σ1 (gR σ1 x0 3) 7) x2) fun r4 σ3 =>
    if (x5 + x7) ≤ r4.toInt64 then (
      ck (tg σ3 x0 = 17) <|
      ck (tg σ3 (gR σ3 x0 3) = 14) <|
      ck (tg σ3 (gR σ3 (gR σ3 x0 3) 7) = 15) <| cl (Tab_move σ3 (gR σ3 (gR σ3 x0 3) 7) x1 x2 x3 x5 x7) fun _ σ5 =>
      some ((), σ5))
    else (
      Run_copyTable_p41 σ3 x0))
theorem V.ctX16_copyTable (x0 : Nat) (x1 : Int32) (x2 : Int32) (x3 : Int64) (x5 : Int64) (x7 : Int64) : Ct yX16_copyTable  cX16_copyTable 9 none 2 57 eV [av x0, iv x1, iv x2, jv x3, jv x5, jv x7] (fun σ => Run_copyTable σ x0 x1 x2 x3 x5 x7) := by
  refine Ct.of (own := RX16) (nm := "copyTable") (desc := "(IIJJJ)V") rfl (by decide) (Nat.le_of_ble_eq_true rfl) (by decide) (fun X σ => ?_)
  show G X RX16 "copyTable" cX16_copyTable 9 none 2 57 enV 0 [(0, av x0), (1, iv x1), (2, iv x2), (3, jv x3), (5, jv x5), (7, jv x7)] [] σ (Run_copyTable σ x0 x1 x2 x3 x5 x7)
  unfold Run_copyTable
  refine g_lload_n 3 3 dX16_copyTable_0 rfl rfl ?_
  refine g_lload 5 dX16_copyTable_1 rfl ?_
  refine g_ladd dX16_copyTable_3 ?_
  refine g_aload_n 0 0 dX16_copyTable_4 rfl rfl ?_
  refine g_getR fdX16_54 dX16_copyTable_5 ?_
  refine g_getR fdX16_217 dX16_copyTable_8 ?_
  refine g_iload_n 1 1 dX16_copyTable_11 rfl rfl ?_
  refine g_callV (fc := fun sς => Tab_size sς (gR σ (gR σ x0 3) 7) x1) (ci := 14) (as := [iv x1]) rfl rfl rfl q2216 q2217 mdX16_221 (ctX14_size (gR σ (gR σ x0 3) 7) x1) rfl (Nat.le_of_ble_eq_true rfl) (Nat.le_of_ble_eq_true rfl) (Nat.le_of_ble_eq_true rfl) pu_I dX16_copyTable_12 (fun r2 σ1 => ?_)
  refine g_i2l dX16_copyTable_15 ?_
  refine g_lcmp_gt 41 dX16_copyTable_16 dX16_copyTable_17 (by decide) ?_ ?_
  · refine G.sub [0] rfl ?_
    exact gX16_copyTable_p41 _ _
  · refine g_lload 4 dX16_copyTable_20 rfl ?_
    refine g_lload 5 dX16_copyTable_22 rfl ?_
    refine g_ladd dX16_copyTable_24 ?_
    refine g_aload_n 0 0 dX16_copyTable_25 rfl rfl ?_
    refine g_getR fdX16_54 dX16_copyTable_26 ?_
    refine g_getR fdX16_217 dX16_copyTable_29 ?_
    refine g_iload_n 2 2 dX16_copyTable_32 rfl rfl ?_
    refine g_callV (fc := fun sς => Tab_size sς (gR σ1 (gR σ1 x0 3) 7) x2) (ci := 14) (as := [iv x2]) rfl rfl rfl q2216 q2217 mdX16_221 (ctX14_size (gR σ1 (gR σ1 x0 3) 7) x2) rfl (Nat.le_of_ble_eq_true rfl) (Nat.le_of_ble_eq_true rfl) (Nat.le_of_ble_eq_true rfl) pu_I dX16_copyTable_33 (fun r4 σ3 => ?_)
    refine g_i2l dX16_copyTable_36 ?_
    refine g_lcmp_le 50 dX16_copyTable_37 dX16_copyTable_38 (by decide) ?_ ?_
    · refine g_aload_n 0 0 dX16_copyTable_50 rfl rfl ?_
      refine g_getR fdX16_54 dX16_copyTable_51 ?_
      refine g_getR fdX16_217 dX16_copyTable_54 ?_
      refine g_iload_n 1 1 dX16_copyTable_57 rfl rfl ?_
      refine g_iload_n 2 2 dX16_copyTable_58 rfl rfl ?_
      refine g_lload_n 3 3 dX16_copyTable_59 rfl rfl ?_
      refine g_lload 4 dX16_copyTable_60 rfl ?_
      refine g_lload 5 dX16_copyTable_62 rfl ?_
      refine g_callV (fc := fun sς => Tab_move sς (gR σ3 (gR σ3 x0 3) 7) x1 x2 x3 x5 x7) (ci := 14) (as := [iv x1, iv x2, jv x3, jv x5, jv x7]) rfl rfl rfl q2799 q2800 mdX16_314 (ctX14_move (gR σ3 (gR σ3 x0 3) 7) x1 x2 x3 x5 x7) rfl (Nat.le_of_ble_eq_true rfl) (Nat.le_of_ble_eq_true rfl) (Nat.le_of_ble_eq_true rfl) pu_V dX16_copyTable_64 (fun _ σ5 => ?_)
      exact g_return rfl dX16_copyTable_67
    · refine G.sub [0] rfl ?_
      exact gX16_copyTable_p41 _ _
theorem V.dX16_fillTable_0 : decode cX16_fillTable 0 = .ok (.lload_n 2, 1) := by decide +kernel
theorem V.dX16_fillTable_1 : decode cX16_fillTable 1 = .ok (.lload 5, 2) := by decide +kernel
theorem V.dX16_fillTable_3 : decode cX16_fillTable 3 = .ok (.ladd, 1) := by decide +kernel
theorem V.dX16_fillTable_4 : decode cX16_fillTable 4 = .ok (.aload_n 0, 1) := by decide +kernel
theorem V.dX16_fillTable_5 : decode cX16_fillTable 5 = .ok (.getfield 54, 3) := by decide +kernel
theorem V.dX16_fillTable_8 : decode cX16_fillTable 8 = .ok (.getfield 217, 3) := by decide +kernel
theorem V.dX16_fillTable_11 : decode cX16_fillTable 11 = .ok (.iload_n 1, 1) := by decide +kernel
theorem V.dX16_fillTable_12 : decode cX16_fillTable 12 = .ok (.invokevirtual 221, 3) := by decide +kernel
theorem V.dX16_fillTable_15 : decode cX16_fillTable 15 = .ok (.i2l, 1) := by decide +kernel
theorem V.dX16_fillTable_16 : decode cX16_fillTable 16 = .ok (.lcmp, 1) := by decide +kernel
theorem V.dX16_fillTable_17 : decode cX16_fillTable 17 = .ok (.ifCond .le 12, 3) := by decide +kernel
theorem V.dX16_fillTable_20 : decode cX16_fillTable 20 = .ok (.aload_n 0, 1) := by decide +kernel
theorem V.dX16_fillTable_21 : decode cX16_fillTable 21 = .ok (.bipush 6, 2) := by decide +kernel
theorem V.dX16_fillTable_23 : decode cX16_fillTable 23 = .ok (.invokevirtual 226, 3) := by decide +kernel
theorem V.dX16_fillTable_26 : decode cX16_fillTable 26 = .ok (.goto 40, 3) := by decide +kernel
theorem V.dX16_fillTable_29 : decode cX16_fillTable 29 = .ok (.lconst 0, 1) := by decide +kernel
theorem V.dX16_fillTable_30 : decode cX16_fillTable 30 = .ok (.lstore 7, 2) := by decide +kernel
theorem V.dX16_fillTable_32 : decode cX16_fillTable 32 = .ok (.lload 7, 2) := by decide +kernel
theorem V.dX16_fillTable_34 : decode cX16_fillTable 34 = .ok (.lload 5, 2) := by decide +kernel
theorem V.dX16_fillTable_36 : decode cX16_fillTable 36 = .ok (.lcmp, 1) := by decide +kernel
theorem V.dX16_fillTable_37 : decode cX16_fillTable 37 = .ok (.ifCond .ge 29, 3) := by decide +kernel
theorem V.dX16_fillTable_40 : decode cX16_fillTable 40 = .ok (.aload_n 0, 1) := by decide +kernel
theorem V.dX16_fillTable_41 : decode cX16_fillTable 41 = .ok (.getfield 54, 3) := by decide +kernel
theorem V.dX16_fillTable_44 : decode cX16_fillTable 44 = .ok (.getfield 217, 3) := by decide +kernel
theorem V.dX16_fillTable_47 : decode cX16_fillTable 47 = .ok (.iload_n 1, 1) := by decide +kernel
theorem V.dX16_fillTable_48 : decode cX16_fillTable 48 = .ok (.lload_n 2, 1) := by decide +kernel
theorem V.dX16_fillTable_49 : decode cX16_fillTable 49 = .ok (.lload 7, 2) := by decide +kernel
theorem V.dX16_fillTable_51 : decode cX16_fillTable 51 = .ok (.ladd, 1) := by decide +kernel
theorem V.dX16_fillTable_52 : decode cX16_fillTable 52 = .ok (.iload 4, 2) := by decide +kernel
theorem V.dX16_fillTable_54 : decode cX16_fillTable 54 = .ok (.invokevirtual 306, 3) := by decide +kernel
theorem V.dX16_fillTable_57 : decode cX16_fillTable 57 = .ok (.lload 7, 2) := by decide +kernel
theorem V.dX16_fillTable_59 : decode cX16_fillTable 59 = .ok (.lconst 1, 1) := by decide +kernel
theorem V.dX16_fillTable_60 : decode cX16_fillTable 60 = .ok (.ladd, 1) := by decide +kernel
theorem V.dX16_fillTable_61 : decode cX16_fillTable 61 = .ok (.lstore 7, 2) := by decide +kernel
theorem V.dX16_fillTable_63 : decode cX16_fillTable 63 = .ok (.goto (-31), 3) := by decide +kernel
theorem V.dX16_fillTable_66 : decode cX16_fillTable 66 = .ok (.return_, 1) := by decide +kernel
/-! ModuleEngine$Runner.fillTable(IJIJ)V -/
def V.Run_fillTable_p32  : Nat → HS → Nat → Int32 → Int64 → Int32 → Int64 → Int64 → Option (Unit × HS)
  | 0, _, _, _, _, _, _, _ => none
  | n + 1, σ, x0, x1, x2, x4, x5, x7 =>
    if x5 ≤ x7 then (
      some ((), σ))
    else (
      ck (tg σ x0 = 17) <|
      ck (tg σ (gR σ x0 3) = 14) <|
      ck (tg σ (gR σ (gR σ x0 3) 7) = 15) <| cl (Tab_put σ (gR σ (gR σ x0 3) 7) x1 (x2 + x7) x4) fun _ σ1 =>
      bn (x7 + (1 : Int64)) fun y2 =>
      Run_fillTable_p32 n σ1 x0 x1 x2 x4 x5 y2)
theorem V.gX16_fillTable_p32 {X : CX}  : ∀ (n : Nat) (σ : HS) (x0 : Nat) (x1 : Int32) (x2 : Int64) (x4 : Int32) (x5 : Int64) (x7 : Int64), G X RX16 "fillTable" cX16_fillTable 9 none 1 24 enV 32 [(0, av x0), (1, iv x1), (2, jv x2), (4, iv x4), (5, jv x5), (7, jv x7)] [] σ (Run_fillTable_p32 n σ x0 x1 x2 x4 x5 x7)
  | 0, σ, x0, x1, x2, x4, x5, x7 => by rw [Run_fillTable_p32]; exact G.nul
  | n + 1, σ, x0, x1, x2, x4, x5, x7 => by
    rw [Run_fillTable_p32]
    refine g_lload 5 dX16_fillTable_32 rfl ?_
    refine g_lload 4 dX16_fillTable_34 rfl ?_
    refine g_lcmp_ge 66 dX16_fillTable_36 dX16_fillTable_37 (by decide) ?_ ?_
    · exact g_return rfl dX16_fillTable_66
    · refine g_aload_n 0 0 dX16_fillTable_40 rfl rfl ?_
      refine g_getR fdX16_54 dX16_fillTable_41 ?_
      refine g_getR fdX16_217 dX16_fillTable_44 ?_
      refine g_iload_n 1 1 dX16_fillTable_47 rfl rfl ?_
      refine g_lload_n 2 2 dX16_fillTable_48 rfl rfl ?_
      refine g_lload 5 dX16_fillTable_49 rfl ?_
      refine g_ladd dX16_fillTable_51 ?_
      refine g_iload 3 dX16_fillTable_52 rfl ?_
      refine g_callV (fc := fun sς => Tab_put sς (gR σ (gR σ x0 3) 7) x1 (x2 + x7) x4) (ci := 14) (as := [iv x1, jv (x2 + x7), iv x4]) rfl rfl rfl q2327 q2328 mdX16_306 (ctX14_put (gR σ (gR σ x0 3) 7) x1 (x2 + x7) x4) rfl (Nat.le_of_ble_eq_true rfl) (Nat.le_of_ble_eq_true rfl) (Nat.le_of_ble_eq_true rfl) pu_V dX16_fillTable_54 (fun _ σ1 => ?_)
      refine g_lload 5 dX16_fillTable_57 rfl ?_
      refine g_lconst (v := 1) dX16_fillTable_59 (by decide) ?_
      refine g_ladd dX16_fillTable_60 ?_
      refine g_nmJ (fun y2 => ?_)
      refine g_lstore dX16_fillTable_61 (by decide) rfl ?_
      refine g_goto 32 dX16_fillTable_63 (by decide) ?_
      refine G.sub [1, 2, 3, 4, 5, 0] rfl ?_
      exact gX16_fillTable_p32 n _ _ _ _ _ _ _
def V.Run_fillTable (σ : HS) (x0 : Nat) (x1 : Int32) (x2 : Int64) (x4 : Int32) (x5 : Int64) : Option (Unit × HS) :=
  ck (tg σ x0 = 17) <|
  ck (tg σ (gR σ x0 3) = 14) <|
  ck (tg σ (gR σ (gR σ x0 3) 7) = 15) <| cl (Tab_size σ (gR σ (gR σ x0 3) 7) x1) fun r2 σ1 =>
  if (x2 + x5) ≤ r2.toInt64 then (
    Run_fillTable_p32 FU σ1 x0 x1 x2 x4 x5 (0 : Int64))
  else (
    ck (tg σ1 x0 = 17) <| cl (Run_stop σ1 x0 (6 : Int32)) fun _ σ3 =>
    some ((), σ3))
theorem V.ctX16_fillTable (x0 : Nat) (x1 : Int32) (x2 : Int64) (x4 : Int32) (x5 : Int64) : Ct yX16_fillTable  cX16_fillTable 9 none 1 24 eV [av x0, iv x1, jv x2, iv x4, jv x5] (fun σ => Run_fillTable σ x0 x1 x2 x4 x5) := by
  refine Ct.of (own := RX16) (nm := "fillTable") (desc := "(IJIJ)V") rfl (by decide) (Nat.le_of_ble_eq_true rfl) (by decide) (fun X σ => ?_)
  show G X RX16 "fillTable" cX16_fillTable 9 none 1 24 enV 0 [(0, av x0), (1, iv x1), (2, jv x2), (4, iv x4), (5, jv x5)] [] σ (Run_fillTable σ x0 x1 x2 x4 x5)
  unfold Run_fillTable
  refine g_lload_n 2 2 dX16_fillTable_0 rfl rfl ?_
  refine g_lload 4 dX16_fillTable_1 rfl ?_
  refine g_ladd dX16_fillTable_3 ?_
  refine g_aload_n 0 0 dX16_fillTable_4 rfl rfl ?_
  refine g_getR fdX16_54 dX16_fillTable_5 ?_
  refine g_getR fdX16_217 dX16_fillTable_8 ?_
  refine g_iload_n 1 1 dX16_fillTable_11 rfl rfl ?_
  refine g_callV (fc := fun sς => Tab_size sς (gR σ (gR σ x0 3) 7) x1) (ci := 14) (as := [iv x1]) rfl rfl rfl q2216 q2217 mdX16_221 (ctX14_size (gR σ (gR σ x0 3) 7) x1) rfl (Nat.le_of_ble_eq_true rfl) (Nat.le_of_ble_eq_true rfl) (Nat.le_of_ble_eq_true rfl) pu_I dX16_fillTable_12 (fun r2 σ1 => ?_)
  refine g_i2l dX16_fillTable_15 ?_
  refine g_lcmp_le 29 dX16_fillTable_16 dX16_fillTable_17 (by decide) ?_ ?_
  · refine g_lconst (v := 0) dX16_fillTable_29 (by decide) ?_
    refine g_lstore dX16_fillTable_30 (by decide) rfl ?_
    refine G.sub [1, 2, 3, 4, 5, 0] rfl ?_
    exact gX16_fillTable_p32 FU _ _ _ _ _ _ _
  · refine g_aload_n 0 0 dX16_fillTable_20 rfl rfl ?_
    refine g_bipush (v := 6) dX16_fillTable_21 (by decide) ?_
    refine g_callV (fc := fun sς => Run_stop sς x0 (6 : Int32)) (ci := 16) (as := [iv (6 : Int32)]) rfl rfl rfl q2364 q2365 mdX16_226 (ctX16_stop x0 (6 : Int32)) rfl (Nat.le_of_ble_eq_true rfl) (Nat.le_of_ble_eq_true rfl) (Nat.le_of_ble_eq_true rfl) pu_V dX16_fillTable_23 (fun _ σ3 => ?_)
    refine g_goto 66 dX16_fillTable_26 (by decide) ?_
    exact g_return rfl dX16_fillTable_66
theorem V.dX16_place_0 : decode cX16_place 0 = .ok (.aload_n 0, 1) := by decide +kernel
theorem V.dX16_place_1 : decode cX16_place 1 = .ok (.invokevirtual 211, 3) := by decide +kernel
theorem V.dX16_place_4 : decode cX16_place 4 = .ok (.istore 5, 2) := by decide +kernel
theorem V.dX16_place_6 : decode cX16_place 6 = .ok (.aload_n 0, 1) := by decide +kernel
theorem V.dX16_place_7 : decode cX16_place 7 = .ok (.getfield 42, 3) := by decide +kernel
theorem V.dX16_place_10 : decode cX16_place 10 = .ok (.iload_n 1, 1) := by decide +kernel
theorem V.dX16_place_11 : decode cX16_place 11 = .ok (.invokevirtual 270, 3) := by decide +kernel
theorem V.dX16_place_14 : decode cX16_place 14 = .ok (.ifCond .le 17, 3) := by decide +kernel
theorem V.dX16_place_17 : decode cX16_place 17 = .ok (.aload_n 0, 1) := by decide +kernel
theorem V.dX16_place_18 : decode cX16_place 18 = .ok (.getfield 9, 3) := by decide +kernel
theorem V.dX16_place_21 : decode cX16_place 21 = .ok (.iload 4, 2) := by decide +kernel
theorem V.dX16_place_23 : decode cX16_place 23 = .ok (.laload, 1) := by decide +kernel
theorem V.dX16_place_24 : decode cX16_place 24 = .ok (.ldc2_w 262, 3) := by decide +kernel
theorem V.dX16_place_27 : decode cX16_place 27 = .ok (.land, 1) := by decide +kernel
theorem V.dX16_place_28 : decode cX16_place 28 = .ok (.goto 4, 3) := by decide +kernel
theorem V.dX16_place_31 : decode cX16_place 31 = .ok (.lconst 0, 1) := by decide +kernel
theorem V.dX16_place_32 : decode cX16_place 32 = .ok (.lstore 6, 2) := by decide +kernel
theorem V.dX16_place_34 : decode cX16_place 34 = .ok (.iload_n 1, 1) := by decide +kernel
theorem V.dX16_place_35 : decode cX16_place 35 = .ok (.lookupswitch 439 #[(37, 97), (38, 97), (264, 123), (265, 172), (266, 185), (267, 185), (268, 217), (269, 268), (270, 281), (271, 344), (272, 404)], 97) := by decide +kernel
theorem V.dX16_place_132 : decode cX16_place 132 = .ok (.aload_n 0, 1) := by decide +kernel
theorem V.dX16_place_133 : decode cX16_place 133 = .ok (.iload_n 1, 1) := by decide +kernel
theorem V.dX16_place_134 : decode cX16_place 134 = .ok (.aload_n 0, 1) := by decide +kernel
theorem V.dX16_place_135 : decode cX16_place 135 = .ok (.getfield 54, 3) := by decide +kernel
theorem V.dX16_place_138 : decode cX16_place 138 = .ok (.getfield 214, 3) := by decide +kernel
theorem V.dX16_place_141 : decode cX16_place 141 = .ok (.iload 5, 2) := by decide +kernel
theorem V.dX16_place_143 : decode cX16_place 143 = .ok (.aaload, 1) := by decide +kernel
theorem V.dX16_place_144 : decode cX16_place 144 = .ok (.iload_n 2, 1) := by decide +kernel
theorem V.dX16_place_145 : decode cX16_place 145 = .ok (.invokevirtual 101, 3) := by decide +kernel
theorem V.dX16_place_148 : decode cX16_place 148 = .ok (.lload 6, 2) := by decide +kernel
theorem V.dX16_place_150 : decode cX16_place 150 = .ok (.iload 4, 2) := by decide +kernel
theorem V.dX16_place_152 : decode cX16_place 152 = .ok (.invokevirtual 273, 3) := by decide +kernel
theorem V.dX16_place_155 : decode cX16_place 155 = .ok (.goto 362, 3) := by decide +kernel
theorem V.dX16_place_158 : decode cX16_place 158 = .ok (.aload_n 0, 1) := by decide +kernel
theorem V.dX16_place_159 : decode cX16_place 159 = .ok (.getfield 54, 3) := by decide +kernel
theorem V.dX16_place_162 : decode cX16_place 162 = .ok (.iload 5, 2) := by decide +kernel
theorem V.dX16_place_164 : decode cX16_place 164 = .ok (.iload_n 2, 1) := by decide +kernel
theorem V.dX16_place_165 : decode cX16_place 165 = .ok (.lload 6, 2) := by decide +kernel
theorem V.dX16_place_167 : decode cX16_place 167 = .ok (.aload_n 0, 1) := by decide +kernel
theorem V.dX16_place_168 : decode cX16_place 168 = .ok (.getfield 9, 3) := by decide +kernel
theorem V.dX16_place_171 : decode cX16_place 171 = .ok (.iload 4, 2) := by decide +kernel
theorem V.dX16_place_173 : decode cX16_place 173 = .ok (.iconst 1, 1) := by decide +kernel
theorem V.dX16_place_174 : decode cX16_place 174 = .ok (.iadd, 1) := by decide +kernel
theorem V.dX16_place_175 : decode cX16_place 175 = .ok (.laload, 1) := by decide +kernel
theorem V.dX16_place_176 : decode cX16_place 176 = .ok (.ldc2_w 262, 3) := by decide +kernel
theorem V.dX16_place_179 : decode cX16_place 179 = .ok (.land, 1) := by decide +kernel
theorem V.dX16_place_180 : decode cX16_place 180 = .ok (.aload_n 0, 1) := by decide +kernel
theorem V.dX16_place_181 : decode cX16_place 181 = .ok (.getfield 9, 3) := by decide +kernel
theorem V.dX16_place_184 : decode cX16_place 184 = .ok (.iload 4, 2) := by decide +kernel
theorem V.dX16_place_186 : decode cX16_place 186 = .ok (.iconst 2, 1) := by decide +kernel
theorem V.dX16_place_187 : decode cX16_place 187 = .ok (.iadd, 1) := by decide +kernel
theorem V.dX16_place_188 : decode cX16_place 188 = .ok (.laload, 1) := by decide +kernel
theorem V.dX16_place_189 : decode cX16_place 189 = .ok (.ldc2_w 262, 3) := by decide +kernel
theorem V.dX16_place_192 : decode cX16_place 192 = .ok (.land, 1) := by decide +kernel
theorem V.dX16_place_193 : decode cX16_place 193 = .ok (.invokevirtual 277, 3) := by decide +kernel
theorem V.dX16_place_196 : decode cX16_place 196 = .ok (.ifCond .ne 321, 3) := by decide +kernel
theorem V.dX16_place_199 : decode cX16_place 199 = .ok (.aload_n 0, 1) := by decide +kernel
theorem V.dX16_place_200 : decode cX16_place 200 = .ok (.iconst 5, 1) := by decide +kernel
theorem V.dX16_place_201 : decode cX16_place 201 = .ok (.invokevirtual 226, 3) := by decide +kernel
theorem V.dX16_place_204 : decode cX16_place 204 = .ok (.goto 313, 3) := by decide +kernel
theorem V.dX16_place_207 : decode cX16_place 207 = .ok (.aload_n 0, 1) := by decide +kernel
theorem V.dX16_place_208 : decode cX16_place 208 = .ok (.getfield 54, 3) := by decide +kernel
theorem V.dX16_place_211 : decode cX16_place 211 = .ok (.iload 5, 2) := by decide +kernel
theorem V.dX16_place_213 : decode cX16_place 213 = .ok (.iload_n 2, 1) := by decide +kernel
theorem V.dX16_place_214 : decode cX16_place 214 = .ok (.invokevirtual 281, 3) := by decide +kernel
theorem V.dX16_place_217 : decode cX16_place 217 = .ok (.goto 300, 3) := by decide +kernel
theorem V.dX16_place_220 : decode cX16_place 220 = .ok (.aload_n 0, 1) := by decide +kernel
theorem V.dX16_place_221 : decode cX16_place 221 = .ok (.iload_n 1, 1) := by decide +kernel
theorem V.dX16_place_222 : decode cX16_place 222 = .ok (.lload 6, 2) := by decide +kernel
theorem V.dX16_place_224 : decode cX16_place 224 = .ok (.aload_n 0, 1) := by decide +kernel
theorem V.dX16_place_225 : decode cX16_place 225 = .ok (.getfield 9, 3) := by decide +kernel
theorem V.dX16_place_228 : decode cX16_place 228 = .ok (.iload 4, 2) := by decide +kernel
theorem V.dX16_place_230 : decode cX16_place 230 = .ok (.iconst 1, 1) := by decide +kernel
theorem V.dX16_place_231 : decode cX16_place 231 = .ok (.iadd, 1) := by decide +kernel
theorem V.dX16_place_232 : decode cX16_place 232 = .ok (.laload, 1) := by decide +kernel
theorem V.dX16_place_233 : decode cX16_place 233 = .ok (.aload_n 0, 1) := by decide +kernel
theorem V.dX16_place_234 : decode cX16_place 234 = .ok (.getfield 9, 3) := by decide +kernel
theorem V.dX16_place_237 : decode cX16_place 237 = .ok (.iload 4, 2) := by decide +kernel
theorem V.dX16_place_239 : decode cX16_place 239 = .ok (.iconst 2, 1) := by decide +kernel
theorem V.dX16_place_240 : decode cX16_place 240 = .ok (.iadd, 1) := by decide +kernel
theorem V.dX16_place_241 : decode cX16_place 241 = .ok (.laload, 1) := by decide +kernel
theorem V.dX16_place_242 : decode cX16_place 242 = .ok (.ldc2_w 262, 3) := by decide +kernel
theorem V.dX16_place_245 : decode cX16_place 245 = .ok (.land, 1) := by decide +kernel
theorem V.dX16_place_246 : decode cX16_place 246 = .ok (.invokevirtual 284, 3) := by decide +kernel
theorem V.dX16_place_249 : decode cX16_place 249 = .ok (.goto 268, 3) := by decide +kernel
theorem V.dX16_place_252 : decode cX16_place 252 = .ok (.aload_n 0, 1) := by decide +kernel
theorem V.dX16_place_253 : decode cX16_place 253 = .ok (.getfield 54, 3) := by decide +kernel
theorem V.dX16_place_256 : decode cX16_place 256 = .ok (.iload 5, 2) := by decide +kernel
theorem V.dX16_place_258 : decode cX16_place 258 = .ok (.iload_n 2, 1) := by decide +kernel
theorem V.dX16_place_259 : decode cX16_place 259 = .ok (.iload_n 3, 1) := by decide +kernel
theorem V.dX16_place_260 : decode cX16_place 260 = .ok (.lload 6, 2) := by decide +kernel
theorem V.dX16_place_262 : decode cX16_place 262 = .ok (.aload_n 0, 1) := by decide +kernel
theorem V.dX16_place_263 : decode cX16_place 263 = .ok (.getfield 9, 3) := by decide +kernel
theorem V.dX16_place_266 : decode cX16_place 266 = .ok (.iload 4, 2) := by decide +kernel
theorem V.dX16_place_268 : decode cX16_place 268 = .ok (.iconst 1, 1) := by decide +kernel
theorem V.dX16_place_269 : decode cX16_place 269 = .ok (.iadd, 1) := by decide +kernel
theorem V.dX16_place_270 : decode cX16_place 270 = .ok (.laload, 1) := by decide +kernel
theorem V.dX16_place_271 : decode cX16_place 271 = .ok (.ldc2_w 262, 3) := by decide +kernel
theorem V.dX16_place_274 : decode cX16_place 274 = .ok (.land, 1) := by decide +kernel
theorem V.dX16_place_275 : decode cX16_place 275 = .ok (.aload_n 0, 1) := by decide +kernel
theorem V.dX16_place_276 : decode cX16_place 276 = .ok (.getfield 9, 3) := by decide +kernel
theorem V.dX16_place_279 : decode cX16_place 279 = .ok (.iload 4, 2) := by decide +kernel
theorem V.dX16_place_281 : decode cX16_place 281 = .ok (.iconst 2, 1) := by decide +kernel
theorem V.dX16_place_282 : decode cX16_place 282 = .ok (.iadd, 1) := by decide +kernel
theorem V.dX16_place_283 : decode cX16_place 283 = .ok (.laload, 1) := by decide +kernel
theorem V.dX16_place_284 : decode cX16_place 284 = .ok (.ldc2_w 262, 3) := by decide +kernel
theorem V.dX16_place_287 : decode cX16_place 287 = .ok (.land, 1) := by decide +kernel
theorem V.dX16_place_288 : decode cX16_place 288 = .ok (.invokevirtual 288, 3) := by decide +kernel
theorem V.dX16_place_291 : decode cX16_place 291 = .ok (.ifCond .ne 226, 3) := by decide +kernel
theorem V.dX16_place_294 : decode cX16_place 294 = .ok (.aload_n 0, 1) := by decide +kernel
theorem V.dX16_place_295 : decode cX16_place 295 = .ok (.bipush 6, 2) := by decide +kernel
theorem V.dX16_place_297 : decode cX16_place 297 = .ok (.invokevirtual 226, 3) := by decide +kernel
theorem V.dX16_place_300 : decode cX16_place 300 = .ok (.goto 217, 3) := by decide +kernel
theorem V.dX16_place_303 : decode cX16_place 303 = .ok (.aload_n 0, 1) := by decide +kernel
theorem V.dX16_place_304 : decode cX16_place 304 = .ok (.getfield 54, 3) := by decide +kernel
theorem V.dX16_place_307 : decode cX16_place 307 = .ok (.iload 5, 2) := by decide +kernel
theorem V.dX16_place_309 : decode cX16_place 309 = .ok (.iload_n 2, 1) := by decide +kernel
theorem V.dX16_place_310 : decode cX16_place 310 = .ok (.invokevirtual 292, 3) := by decide +kernel
theorem V.dX16_place_313 : decode cX16_place 313 = .ok (.goto 204, 3) := by decide +kernel
theorem V.dX16_place_316 : decode cX16_place 316 = .ok (.aload_n 0, 1) := by decide +kernel
theorem V.dX16_place_317 : decode cX16_place 317 = .ok (.aload_n 0, 1) := by decide +kernel
theorem V.dX16_place_318 : decode cX16_place 318 = .ok (.getfield 54, 3) := by decide +kernel
theorem V.dX16_place_321 : decode cX16_place 321 = .ok (.getfield 214, 3) := by decide +kernel
theorem V.dX16_place_324 : decode cX16_place 324 = .ok (.iload 5, 2) := by decide +kernel
theorem V.dX16_place_326 : decode cX16_place 326 = .ok (.aaload, 1) := by decide +kernel
theorem V.dX16_place_327 : decode cX16_place 327 = .ok (.iload_n 2, 1) := by decide +kernel
theorem V.dX16_place_328 : decode cX16_place 328 = .ok (.invokevirtual 101, 3) := by decide +kernel
theorem V.dX16_place_331 : decode cX16_place 331 = .ok (.aload_n 0, 1) := by decide +kernel
theorem V.dX16_place_332 : decode cX16_place 332 = .ok (.getfield 54, 3) := by decide +kernel
theorem V.dX16_place_335 : decode cX16_place 335 = .ok (.getfield 214, 3) := by decide +kernel
theorem V.dX16_place_338 : decode cX16_place 338 = .ok (.iload 5, 2) := by decide +kernel
theorem V.dX16_place_340 : decode cX16_place 340 = .ok (.aaload, 1) := by decide +kernel
theorem V.dX16_place_341 : decode cX16_place 341 = .ok (.iload_n 3, 1) := by decide +kernel
theorem V.dX16_place_342 : decode cX16_place 342 = .ok (.invokevirtual 101, 3) := by decide +kernel
theorem V.dX16_place_345 : decode cX16_place 345 = .ok (.lload 6, 2) := by decide +kernel
theorem V.dX16_place_347 : decode cX16_place 347 = .ok (.aload_n 0, 1) := by decide +kernel
theorem V.dX16_place_348 : decode cX16_place 348 = .ok (.getfield 9, 3) := by decide +kernel
theorem V.dX16_place_351 : decode cX16_place 351 = .ok (.iload 4, 2) := by decide +kernel
theorem V.dX16_place_353 : decode cX16_place 353 = .ok (.iconst 1, 1) := by decide +kernel
theorem V.dX16_place_354 : decode cX16_place 354 = .ok (.iadd, 1) := by decide +kernel
theorem V.dX16_place_355 : decode cX16_place 355 = .ok (.laload, 1) := by decide +kernel
theorem V.dX16_place_356 : decode cX16_place 356 = .ok (.ldc2_w 262, 3) := by decide +kernel
theorem V.dX16_place_359 : decode cX16_place 359 = .ok (.land, 1) := by decide +kernel
theorem V.dX16_place_360 : decode cX16_place 360 = .ok (.aload_n 0, 1) := by decide +kernel
theorem V.dX16_place_361 : decode cX16_place 361 = .ok (.getfield 9, 3) := by decide +kernel
theorem V.dX16_place_364 : decode cX16_place 364 = .ok (.iload 4, 2) := by decide +kernel
theorem V.dX16_place_366 : decode cX16_place 366 = .ok (.iconst 2, 1) := by decide +kernel
theorem V.dX16_place_367 : decode cX16_place 367 = .ok (.iadd, 1) := by decide +kernel
theorem V.dX16_place_368 : decode cX16_place 368 = .ok (.laload, 1) := by decide +kernel
theorem V.dX16_place_369 : decode cX16_place 369 = .ok (.ldc2_w 262, 3) := by decide +kernel
theorem V.dX16_place_372 : decode cX16_place 372 = .ok (.land, 1) := by decide +kernel
theorem V.dX16_place_373 : decode cX16_place 373 = .ok (.invokevirtual 295, 3) := by decide +kernel
theorem V.dX16_place_376 : decode cX16_place 376 = .ok (.goto 141, 3) := by decide +kernel
theorem V.dX16_place_379 : decode cX16_place 379 = .ok (.aload_n 0, 1) := by decide +kernel
theorem V.dX16_place_380 : decode cX16_place 380 = .ok (.getfield 9, 3) := by decide +kernel
theorem V.dX16_place_383 : decode cX16_place 383 = .ok (.iload 4, 2) := by decide +kernel
theorem V.dX16_place_385 : decode cX16_place 385 = .ok (.aload_n 0, 1) := by decide +kernel
theorem V.dX16_place_386 : decode cX16_place 386 = .ok (.getfield 54, 3) := by decide +kernel
theorem V.dX16_place_389 : decode cX16_place 389 = .ok (.getfield 217, 3) := by decide +kernel
theorem V.dX16_place_392 : decode cX16_place 392 = .ok (.aload_n 0, 1) := by decide +kernel
theorem V.dX16_place_393 : decode cX16_place 393 = .ok (.getfield 54, 3) := by decide +kernel
theorem V.dX16_place_396 : decode cX16_place 396 = .ok (.getfield 214, 3) := by decide +kernel
theorem V.dX16_place_399 : decode cX16_place 399 = .ok (.iload 5, 2) := by decide +kernel
theorem V.dX16_place_401 : decode cX16_place 401 = .ok (.aaload, 1) := by decide +kernel
theorem V.dX16_place_402 : decode cX16_place 402 = .ok (.iload_n 2, 1) := by decide +kernel
theorem V.dX16_place_403 : decode cX16_place 403 = .ok (.invokevirtual 101, 3) := by decide +kernel
theorem V.dX16_place_406 : decode cX16_place 406 = .ok (.aload_n 0, 1) := by decide +kernel
theorem V.dX16_place_407 : decode cX16_place 407 = .ok (.getfield 9, 3) := by decide +kernel
theorem V.dX16_place_410 : decode cX16_place 410 = .ok (.iload 4, 2) := by decide +kernel
theorem V.dX16_place_412 : decode cX16_place 412 = .ok (.iconst 1, 1) := by decide +kernel
theorem V.dX16_place_413 : decode cX16_place 413 = .ok (.iadd, 1) := by decide +kernel
theorem V.dX16_place_414 : decode cX16_place 414 = .ok (.laload, 1) := by decide +kernel
theorem V.dX16_place_415 : decode cX16_place 415 = .ok (.ldc2_w 262, 3) := by decide +kernel
theorem V.dX16_place_418 : decode cX16_place 418 = .ok (.land, 1) := by decide +kernel
theorem V.dX16_place_419 : decode cX16_place 419 = .ok (.aload_n 0, 1) := by decide +kernel
theorem V.dX16_place_420 : decode cX16_place 420 = .ok (.getfield 9, 3) := by decide +kernel
theorem V.dX16_place_423 : decode cX16_place 423 = .ok (.iload 4, 2) := by decide +kernel
theorem V.dX16_place_425 : decode cX16_place 425 = .ok (.laload, 1) := by decide +kernel
theorem V.dX16_place_426 : decode cX16_place 426 = .ok (.l2i, 1) := by decide +kernel
theorem V.dX16_place_427 : decode cX16_place 427 = .ok (.invokevirtual 299, 3) := by decide +kernel
theorem V.dX16_place_430 : decode cX16_place 430 = .ok (.i2l, 1) := by decide +kernel
theorem V.dX16_place_431 : decode cX16_place 431 = .ok (.ldc2_w 262, 3) := by decide +kernel
theorem V.dX16_place_434 : decode cX16_place 434 = .ok (.land, 1) := by decide +kernel
theorem V.dX16_place_435 : decode cX16_place 435 = .ok (.lastore, 1) := by decide +kernel
theorem V.dX16_place_436 : decode cX16_place 436 = .ok (.goto 81, 3) := by decide +kernel
theorem V.dX16_place_439 : decode cX16_place 439 = .ok (.aload_n 0, 1) := by decide +kernel
theorem V.dX16_place_440 : decode cX16_place 440 = .ok (.getfield 9, 3) := by decide +kernel
theorem V.dX16_place_443 : decode cX16_place 443 = .ok (.iload 4, 2) := by decide +kernel
theorem V.dX16_place_445 : decode cX16_place 445 = .ok (.aload_n 0, 1) := by decide +kernel
theorem V.dX16_place_446 : decode cX16_place 446 = .ok (.getfield 54, 3) := by decide +kernel
theorem V.dX16_place_449 : decode cX16_place 449 = .ok (.getfield 217, 3) := by decide +kernel
theorem V.dX16_place_452 : decode cX16_place 452 = .ok (.aload_n 0, 1) := by decide +kernel
theorem V.dX16_place_453 : decode cX16_place 453 = .ok (.getfield 54, 3) := by decide +kernel
theorem V.dX16_place_456 : decode cX16_place 456 = .ok (.getfield 214, 3) := by decide +kernel
theorem V.dX16_place_459 : decode cX16_place 459 = .ok (.iload 5, 2) := by decide +kernel
theorem V.dX16_place_461 : decode cX16_place 461 = .ok (.aaload, 1) := by decide +kernel
theorem V.dX16_place_462 : decode cX16_place 462 = .ok (.iload_n 2, 1) := by decide +kernel
theorem V.dX16_place_463 : decode cX16_place 463 = .ok (.invokevirtual 101, 3) := by decide +kernel
theorem V.dX16_place_466 : decode cX16_place 466 = .ok (.invokevirtual 221, 3) := by decide +kernel
theorem V.dX16_place_469 : decode cX16_place 469 = .ok (.i2l, 1) := by decide +kernel
theorem V.dX16_place_470 : decode cX16_place 470 = .ok (.lastore, 1) := by decide +kernel
theorem V.dX16_place_471 : decode cX16_place 471 = .ok (.goto 46, 3) := by decide +kernel
theorem V.dX16_place_474 : decode cX16_place 474 = .ok (.aload_n 0, 1) := by decide +kernel
theorem V.dX16_place_475 : decode cX16_place 475 = .ok (.aload_n 0, 1) := by decide +kernel
theorem V.dX16_place_476 : decode cX16_place 476 = .ok (.getfield 54, 3) := by decide +kernel
theorem V.dX16_place_479 : decode cX16_place 479 = .ok (.getfield 214, 3) := by decide +kernel
theorem V.dX16_place_482 : decode cX16_place 482 = .ok (.iload 5, 2) := by decide +kernel
theorem V.dX16_place_484 : decode cX16_place 484 = .ok (.aaload, 1) := by decide +kernel
theorem V.dX16_place_485 : decode cX16_place 485 = .ok (.iload_n 2, 1) := by decide +kernel
theorem V.dX16_place_486 : decode cX16_place 486 = .ok (.invokevirtual 101, 3) := by decide +kernel
theorem V.dX16_place_489 : decode cX16_place 489 = .ok (.lload 6, 2) := by decide +kernel
theorem V.dX16_place_491 : decode cX16_place 491 = .ok (.aload_n 0, 1) := by decide +kernel
theorem V.dX16_place_492 : decode cX16_place 492 = .ok (.getfield 9, 3) := by decide +kernel
theorem V.dX16_place_495 : decode cX16_place 495 = .ok (.iload 4, 2) := by decide +kernel
theorem V.dX16_place_497 : decode cX16_place 497 = .ok (.iconst 1, 1) := by decide +kernel
theorem V.dX16_place_498 : decode cX16_place 498 = .ok (.iadd, 1) := by decide +kernel
theorem V.dX16_place_499 : decode cX16_place 499 = .ok (.laload, 1) := by decide +kernel
theorem V.dX16_place_500 : decode cX16_place 500 = .ok (.l2i, 1) := by decide +kernel
theorem V.dX16_place_501 : decode cX16_place 501 = .ok (.aload_n 0, 1) := by decide +kernel
theorem V.dX16_place_502 : decode cX16_place 502 = .ok (.getfield 9, 3) := by decide +kernel
theorem V.dX16_place_505 : decode cX16_place 505 = .ok (.iload 4, 2) := by decide +kernel
theorem V.dX16_place_507 : decode cX16_place 507 = .ok (.iconst 2, 1) := by decide +kernel
theorem V.dX16_place_508 : decode cX16_place 508 = .ok (.iadd, 1) := by decide +kernel
theorem V.dX16_place_509 : decode cX16_place 509 = .ok (.laload, 1) := by decide +kernel
theorem V.dX16_place_510 : decode cX16_place 510 = .ok (.ldc2_w 262, 3) := by decide +kernel
theorem V.dX16_place_513 : decode cX16_place 513 = .ok (.land, 1) := by decide +kernel
theorem V.dX16_place_514 : decode cX16_place 514 = .ok (.invokevirtual 302, 3) := by decide +kernel
theorem V.dX16_place_517 : decode cX16_place 517 = .ok (.return_, 1) := by decide +kernel
theorem V.mdX16_270 : MD RX16 270 yX6_in cX6_in 2 (some .int) 1 := ⟨Or.inl q2769, q366, q2123, by decide, by decide, by decide +kernel⟩
theorem V.mdX16_277 : MD RX16 277 yX13_initMemory cX13_initMemory 16 (some .boolean) 5 := ⟨Or.inl q2775, q373, q2338, by decide, by decide, by decide +kernel⟩
theorem V.mdX16_281 : MD RX16 281 yX13_dropData cX13_dropData 3 none 2 := ⟨Or.inl q2776, q373, q2354, by decide, by decide, by decide +kernel⟩
theorem V.mdX16_288 : MD RX16 288 yX13_initTable cX13_initTable 13 (some .boolean) 6 := ⟨Or.inl q2792, q373, q2325, by decide, by decide, by decide +kernel⟩
theorem V.mdX16_292 : MD RX16 292 yX13_dropElement cX13_dropElement 3 none 2 := ⟨Or.inl q2793, q373, q2333, by decide, by decide, by decide +kernel⟩
theorem V.mdX16_295 : MD RX16 295 yX16_copyTable cX16_copyTable 9 none 5 := ⟨Or.inl q2794, q376, q2797, by decide, by decide, by decide +kernel⟩
theorem V.mdX16_299 : MD RX16 299 yX14_grow cX14_grow 9 (some .int) 3 := ⟨Or.inl q2804, q374, q2290, by decide, by decide, by decide +kernel⟩
theorem V.mdX16_302 : MD RX16 302 yX16_fillTable cX16_fillTable 9 none 4 := ⟨Or.inl q2805, q376, q2808, by decide, by decide, by decide +kernel⟩
theorem V.mdX16_273 : MD RX16 273 yX16_entry cX16_entry 6 none 4 := ⟨Or.inl q2770, q376, q2773, by decide, by decide, by decide +kernel⟩
theorem V.mdX16_284 : MD RX16 284 yX16_stretch cX16_stretch 14 none 4 := ⟨Or.inl q2777, q376, q2780, by decide, by decide, by decide +kernel⟩
/-! ModuleEngine$Runner.place(IIII)V -/
def V.Run_place_p132  (σ : HS) (x0 : Nat) (x1 : Int32) (x2 : Int32) (x4 : Int32) (x5 : Int32) (x6 : Int64) : Option (Unit × HS) :=
  ck (tg σ x0 = 17) <|
  ck (tg σ (gR σ x0 3) = 14) <|
  ck (tg σ (gR σ (gR σ x0 3) 16) = 104 ∧ inb x5 (ln σ (gR σ (gR σ x0 3) 16))) <|
  ck (tg σ (gR σ (gR σ (gR σ x0 3) 16) (ix x5)) = 4) <| cl (Row_at σ (gR σ (gR σ (gR σ x0 3) 16) (ix x5)) x2) fun r2 σ1 =>
  ck (tg σ1 x0 = 17) <| cl (Run_entry σ1 x0 x1 r2 x6 x4) fun _ σ3 =>
  some ((), σ3)
theorem V.gX16_place_p132 {X : CX}  (σ : HS) (x0 : Nat) (x1 : Int32) (x2 : Int32) (x4 : Int32) (x5 : Int32) (x6 : Int64) : G X RX16 "place" cX16_place 8 none 4 109 enV 132 [(0, av x0), (1, iv x1), (2, iv x2), (4, iv x4), (5, iv x5), (6, jv x6)] [] σ (Run_place_p132 σ x0 x1 x2 x4 x5 x6) := by
  unfold Run_place_p132
  refine g_aload_n 0 0 dX16_place_132 rfl rfl ?_
  refine g_iload_n 1 1 dX16_place_133 rfl rfl ?_
  refine g_aload_n 0 0 dX16_place_134 rfl rfl ?_
  refine g_getR fdX16_54 dX16_place_135 ?_
  refine g_getR fdX16_214 dX16_place_138 ?_
  refine g_iload 4 dX16_place_141 rfl ?_
  refine g_aaload 4 rfl dX16_place_143 ?_
  refine g_iload_n 2 2 dX16_place_144 rfl rfl ?_
  refine g_callV (fc := fun sς => Row_at sς (gR σ (gR σ (gR σ x0 3) 16) (ix x5)) x2) (ci := 3) (as := [iv x2]) rfl rfl rfl q1409 q1410 mdX16_101 (ctX3_at (gR σ (gR σ (gR σ x0 3) 16) (ix x5)) x2) rfl (Nat.le_of_ble_eq_true rfl) (Nat.le_of_ble_eq_true rfl) (Nat.le_of_ble_eq_true rfl) pu_I dX16_place_145 (fun r2 σ1 => ?_)
  refine g_lload 5 dX16_place_148 rfl ?_
  refine g_iload 3 dX16_place_150 rfl ?_
  refine g_callV (fc := fun sς => Run_entry sς x0 x1 r2 x6 x4) (ci := 16) (as := [iv x1, iv r2, jv x6, iv x4]) rfl rfl rfl q2772 qs192 mdX16_273 (ctX16_entry x0 x1 r2 x6 x4) rfl (Nat.le_of_ble_eq_true rfl) (Nat.le_of_ble_eq_true rfl) (Nat.le_of_ble_eq_true rfl) pu_V dX16_place_152 (fun _ σ3 => ?_)
  refine g_goto 517 dX16_place_155 (by decide) ?_
  exact g_return rfl dX16_place_517
def V.Run_place_p220  (σ : HS) (x0 : Nat) (x1 : Int32) (x4 : Int32) (x6 : Int64) : Option (Unit × HS) :=
  ck (tg σ x0 = 17) <|
  ck (tg σ (gR σ x0 4) = 101 ∧ inb (x4 + (1 : Int32)) (ln σ (gR σ x0 4))) <|
  ck (tg σ x0 = 17) <|
  ck (tg σ (gR σ x0 4) = 101 ∧ inb (x4 + (2 : Int32)) (ln σ (gR σ x0 4))) <|
  ck (tg σ x0 = 17) <| cl (Run_stretch σ x0 x1 x6 (gJ σ (gR σ x0 4) (ix (x4 + (1 : Int32)))) ((gJ σ (gR σ x0 4) (ix (x4 + (2 : Int32)))) &&& (4294967295 : Int64))) fun _ σ1 =>
  some ((), σ1)
theorem V.gX16_place_p220 {X : CX}  (σ : HS) (x0 : Nat) (x1 : Int32) (x4 : Int32) (x6 : Int64) : G X RX16 "place" cX16_place 8 none 4 109 enV 220 [(0, av x0), (1, iv x1), (4, iv x4), (6, jv x6)] [] σ (Run_place_p220 σ x0 x1 x4 x6) := by
  unfold Run_place_p220
  refine g_aload_n 0 0 dX16_place_220 rfl rfl ?_
  refine g_iload_n 1 1 dX16_place_221 rfl rfl ?_
  refine g_lload 3 dX16_place_222 rfl ?_
  refine g_aload_n 0 0 dX16_place_224 rfl rfl ?_
  refine g_getR fdX16_9 dX16_place_225 ?_
  refine g_iload 2 dX16_place_228 rfl ?_
  refine g_iconst (v := 1) dX16_place_230 (by decide) ?_
  refine g_iadd dX16_place_231 ?_
  refine g_laload dX16_place_232 ?_
  refine g_aload_n 0 0 dX16_place_233 rfl rfl ?_
  refine g_getR fdX16_9 dX16_place_234 ?_
  refine g_iload 2 dX16_place_237 rfl ?_
  refine g_iconst (v := 2) dX16_place_239 (by decide) ?_
  refine g_iadd dX16_place_240 ?_
  refine g_laload dX16_place_241 ?_
  refine g_ldc2 q2717 dX16_place_242 ?_
  refine g_land dX16_place_245 ?_
  refine g_callV (fc := fun sς => Run_stretch sς x0 x1 x6 (gJ σ (gR σ x0 4) (ix (x4 + (1 : Int32)))) ((gJ σ (gR σ x0 4) (ix (x4 + (2 : Int32)))) &&& (4294967295 : Int64))) (ci := 16) (as := [iv x1, jv x6, jv (gJ σ (gR σ x0 4) (ix (x4 + (1 : Int32)))), jv ((gJ σ (gR σ x0 4) (ix (x4 + (2 : Int32)))) &&& (4294967295 : Int64))]) rfl rfl rfl q2779 qs193 mdX16_284 (ctX16_stretch x0 x1 x6 (gJ σ (gR σ x0 4) (ix (x4 + (1 : Int32)))) ((gJ σ (gR σ x0 4) (ix (x4 + (2 : Int32)))) &&& (4294967295 : Int64))) rfl (Nat.le_of_ble_eq_true rfl) (Nat.le_of_ble_eq_true rfl) (Nat.le_of_ble_eq_true rfl) pu_V dX16_place_246 (fun _ σ1 => ?_)
  refine g_goto 517 dX16_place_249 (by decide) ?_
  exact g_return rfl dX16_place_517
def V.Run_place_p32  (σ : HS) (x0 : Nat) (x1 : Int32) (x2 : Int32) (x3 : Int32) (x4 : Int32) (x5 : Int32) (s0 : Int64) : Option (Unit × HS) :=
  swx x1 [
    (37, (
      Run_place_p132 σ x0 x1 x2 x4 x5 s0)),
    (38, (
      Run_place_p132 σ x0 x1 x2 x4 x5 s0)),
    (264, (
      ck (tg σ x0 = 17) <|
      ck (tg σ x0 = 17) <|
      ck (tg σ (gR σ x0 4) = 101 ∧ inb (x4 + (1 : Int32)) (ln σ (gR σ x0 4))) <|
      ck (tg σ x0 = 17) <|
      ck (tg σ (gR σ x0 4) = 101 ∧ inb (x4 + (2 : Int32)) (ln σ (gR σ x0 4))) <|
      ck (tg σ (gR σ x0 3) = 14) <| cl (Sto_initMemory σ (gR σ x0 3) x5 x2 s0 ((gJ σ (gR σ x0 4) (ix (x4 + (1 : Int32)))) &&& (4294967295 : Int64)) ((gJ σ (gR σ x0 4) (ix (x4 + (2 : Int32)))) &&& (4294967295 : Int64))) fun r2 σ1 =>
      if r2 = 0 then (
        ck (tg σ1 x0 = 17) <| cl (Run_stop σ1 x0 (5 : Int32)) fun _ σ3 =>
        some ((), σ3))
      else (
        some ((), σ1)))),
    (265, (
      ck (tg σ x0 = 17) <|
      ck (tg σ (gR σ x0 3) = 14) <| cl (Sto_dropData σ (gR σ x0 3) x5 x2) fun _ σ4 =>
      some ((), σ4))),
    (266, (
      Run_place_p220 σ x0 x1 x4 s0)),
    (267, (
      Run_place_p220 σ x0 x1 x4 s0)),
    (268, (
      ck (tg σ x0 = 17) <|
      ck (tg σ x0 = 17) <|
      ck (tg σ (gR σ x0 4) = 101 ∧ inb (x4 + (1 : Int32)) (ln σ (gR σ x0 4))) <|
      ck (tg σ x0 = 17) <|
      ck (tg σ (gR σ x0 4) = 101 ∧ inb (x4 + (2 : Int32)) (ln σ (gR σ x0 4))) <|
      ck (tg σ (gR σ x0 3) = 14) <| cl (Sto_initTable σ (gR σ x0 3) x5 x2 x3 s0 ((gJ σ (gR σ x0 4) (ix (x4 + (1 : Int32)))) &&& (4294967295 : Int64)) ((gJ σ (gR σ x0 4) (ix (x4 + (2 : Int32)))) &&& (4294967295 : Int64))) fun r6 σ5 =>
      if r6 = 0 then (
        ck (tg σ5 x0 = 17) <| cl (Run_stop σ5 x0 (6 : Int32)) fun _ σ7 =>
        some ((), σ7))
      else (
        some ((), σ5)))),
    (269, (
      ck (tg σ x0 = 17) <|
      ck (tg σ (gR σ x0 3) = 14) <| cl (Sto_dropElement σ (gR σ x0 3) x5 x2) fun _ σ8 =>
      some ((), σ8))),
    (270, (
      ck (tg σ x0 = 17) <|
      ck (tg σ (gR σ x0 3) = 14) <|
      ck (tg σ (gR σ (gR σ x0 3) 16) = 104 ∧ inb x5 (ln σ (gR σ (gR σ x0 3) 16))) <|
      ck (tg σ (gR σ (gR σ (gR σ x0 3) 16) (ix x5)) = 4) <| cl (Row_at σ (gR σ (gR σ (gR σ x0 3) 16) (ix x5)) x2) fun r10 σ9 =>
      ck (tg σ9 x0 = 17) <|
      ck (tg σ9 (gR σ9 x0 3) = 14) <|
      ck (tg σ9 (gR σ9 (gR σ9 x0 3) 16) = 104 ∧ inb x5 (ln σ9 (gR σ9 (gR σ9 x0 3) 16))) <|
      ck (tg σ9 (gR σ9 (gR σ9 (gR σ9 x0 3) 16) (ix x5)) = 4) <| cl (Row_at σ9 (gR σ9 (gR σ9 (gR σ9 x0 3) 16) (ix x5)) x3) fun r12 σ11 =>
      ck (tg σ11 x0 = 17) <|
      ck (tg σ11 (gR σ11 x0 4) = 101 ∧ inb (x4 + (1 : Int32)) (ln σ11 (gR σ11 x0 4))) <|
      ck (tg σ11 x0 = 17) <|
      ck (tg σ11 (gR σ11 x0 4) = 101 ∧ inb (x4 + (2 : Int32)) (ln σ11 (gR σ11 x0 4))) <|
      ck (tg σ11 x0 = 17) <| cl (Run_copyTable σ11 x0 r10 r12 s0 ((gJ σ11 (gR σ11 x0 4) (ix (x4 + (1 : Int32)))) &&& (4294967295 : Int64)) ((gJ σ11 (gR σ11 x0 4) (ix (x4 + (2 : Int32)))) &&& (4294967295 : Int64))) fun _ σ13 =>
      some ((), σ13))),
    (271, (
      ck (tg σ x0 = 17) <|
      ck (tg σ x0 = 17) <|
      ck (tg σ (gR σ x0 3) = 14) <|
      ck (tg σ x0 = 17) <|
      ck (tg σ (gR σ x0 3) = 14) <|
      ck (tg σ (gR σ (gR σ x0 3) 16) = 104 ∧ inb x5 (ln σ (gR σ (gR σ x0 3) 16))) <|
      ck (tg σ (gR σ (gR σ (gR σ x0 3) 16) (ix x5)) = 4) <| cl (Row_at σ (gR σ (gR σ (gR σ x0 3) 16) (ix x5)) x2) fun r15 σ14 =>
      ck (tg σ14 x0 = 17) <|
      ck (tg σ14 (gR σ14 x0 4) = 101 ∧ inb (x4 + (1 : Int32)) (ln σ14 (gR σ14 x0 4))) <|
      ck (tg σ14 x0 = 17) <|
      ck (tg σ14 (gR σ14 x0 4) = 101 ∧ inb x4 (ln σ14 (gR σ14 x0 4))) <|
      ck (tg σ14 (gR σ (gR σ x0 3) 7) = 15) <| cl (Tab_grow σ14 (gR σ (gR σ x0 3) 7) r15 ((gJ σ14 (gR σ14 x0 4) (ix (x4 + (1 : Int32)))) &&& (4294967295 : Int64)) ((gJ σ14 (gR σ14 x0 4) (ix x4)).toInt32)) fun r17 σ16 =>
      ck (tg σ16 (gR σ x0 4) = 101 ∧ inb x4 (ln σ16 (gR σ x0 4))) <| bn (sJ σ16 (gR σ x0 4) (ix x4) (r17.toInt64 &&& (4294967295 : Int64))) fun σ18 =>
      some ((), σ18))),
    (272, (
      ck (tg σ x0 = 17) <|
      ck (tg σ x0 = 17) <|
      ck (tg σ (gR σ x0 3) = 14) <|
      ck (tg σ x0 = 17) <|
      ck (tg σ (gR σ x0 3) = 14) <|
      ck (tg σ (gR σ (gR σ x0 3) 16) = 104 ∧ inb x5 (ln σ (gR σ (gR σ x0 3) 16))) <|
      ck (tg σ (gR σ (gR σ (gR σ x0 3) 16) (ix x5)) = 4) <| cl (Row_at σ (gR σ (gR σ (gR σ x0 3) 16) (ix x5)) x2) fun r20 σ19 =>
      ck (tg σ19 (gR σ (gR σ x0 3) 7) = 15) <| cl (Tab_size σ19 (gR σ (gR σ x0 3) 7) r20) fun r22 σ21 =>
      ck (tg σ21 (gR σ x0 4) = 101 ∧ inb x4 (ln σ21 (gR σ x0 4))) <| bn (sJ σ21 (gR σ x0 4) (ix x4) r22.toInt64) fun σ23 =>
      some ((), σ23)))
    ] (
    ck (tg σ x0 = 17) <|
    ck (tg σ (gR σ x0 3) = 14) <|
    ck (tg σ (gR σ (gR σ x0 3) 16) = 104 ∧ inb x5 (ln σ (gR σ (gR σ x0 3) 16))) <|
    ck (tg σ (gR σ (gR σ (gR σ x0 3) 16) (ix x5)) = 4) <| cl (Row_at σ (gR σ (gR σ (gR σ x0 3) 16) (ix x5)) x2) fun r25 σ24 =>
    ck (tg σ24 x0 = 17) <|
    ck (tg σ24 (gR σ24 x0 4) = 101 ∧ inb (x4 + (1 : Int32)) (ln σ24 (gR σ24 x0 4))) <|
    ck (tg σ24 x0 = 17) <|
    ck (tg σ24 (gR σ24 x0 4) = 101 ∧ inb (x4 + (2 : Int32)) (ln σ24 (gR σ24 x0 4))) <|
    ck (tg σ24 x0 = 17) <| cl (Run_fillTable σ24 x0 r25 s0 ((gJ σ24 (gR σ24 x0 4) (ix (x4 + (1 : Int32)))).toInt32) ((gJ σ24 (gR σ24 x0 4) (ix (x4 + (2 : Int32)))) &&& (4294967295 : Int64))) fun _ σ26 =>
    some ((), σ26))
theorem V.gX16_place_p32 {X : CX}  (σ : HS) (x0 : Nat) (x1 : Int32) (x2 : Int32) (x3 : Int32) (x4 : Int32) (x5 : Int32) (s0 : Int64) : G X RX16 "place" cX16_place 8 none 4 109 enV 32 [(0, av x0), (1, iv x1), (2, iv x2), (3, iv x3), (4, iv x4), (5, iv x5)] [jv s0] σ (Run_place_p32 σ x0 x1 x2 x3 x4 x5 s0) := by
  unfold Run_place_p32
  refine g_lstore dX16_place_32 (by decide) rfl ?_
  refine g_iload_n 1 2 dX16_place_34 rfl rfl ?_
  refine g_lsw dX16_place_35 (by decide +kernel) ?_
  refine g_case ex0 (t := 132) (by decide +kernel) ?_ (fun hx => ?_)
  · refine G.sub [1, 2, 3, 5, 6, 0] rfl ?_
    exact gX16_place_p132 _ _ _ _ _ _ _
  refine g_case hx (t := 132) (by decide +kernel) ?_ (fun hx => ?_)
  · refine G.sub [1, 2, 3, 5, 6, 0] rfl ?_
    exact gX16_place_p132 _ _ _ _ _ _ _
  refine g_case hx (t := 158) (by decide +kernel) ?_ (fun hx => ?_)
  · refine g_aload_n 0 1 dX16_place_158 rfl rfl ?_
    refine g_getR fdX16_54 dX16_place_159 ?_
    refine g_iload 6 dX16_place_162 rfl ?_
    refine g_iload_n 2 3 dX16_place_164 rfl rfl ?_
    refine g_lload 0 dX16_place_165 rfl ?_
    refine g_aload_n 0 1 dX16_place_167 rfl rfl ?_
    refine g_getR fdX16_9 dX16_place_168 ?_
    refine g_iload 5 dX16_place_171 rfl ?_
    refine g_iconst (v := 1) dX16_place_173 (by decide) ?_
    refine g_iadd dX16_place_174 ?_
    refine g_laload dX16_place_175 ?_
    refine g_ldc2 q2717 dX16_place_176 ?_
    refine g_land dX16_place_179 ?_
    refine g_aload_n 0 1 dX16_place_180 rfl rfl ?_
    refine g_getR fdX16_9 dX16_place_181 ?_
    refine g_iload 5 dX16_place_184 rfl ?_
    refine g_iconst (v := 2) dX16_place_186 (by decide) ?_
    refine g_iadd dX16_place_187 ?_
    refine g_laload dX16_place_188 ?_
    refine g_ldc2 q2717 dX16_place_189 ?_
    refine g_land dX16_place_192 ?_
    refine g_callV (fc := fun sς => Sto_initMemory sς (gR σ x0 3) x5 x2 s0 ((gJ σ (gR σ x0 4) (ix (x4 + (1 : Int32)))) &&& (4294967295 : Int64)) ((gJ σ (gR σ x0 4) (ix (x4 + (2 : Int32)))) &&& (4294967295 : Int64))) (ci := 13) (as := [iv x5, iv x2, jv s0, jv ((gJ σ (gR σ x0 4) (ix (x4 + (1 : Int32)))) &&& (4294967295 : Int64)), jv ((gJ σ (gR σ x0 4) (ix (x4 + (2 : Int32)))) &&& (4294967295 : Int64))]) rfl rfl rfl q2336 q2337 mdX16_277 (ctX13_initMemory (gR σ x0 3) x5 x2 s0 ((gJ σ (gR σ x0 4) (ix (x4 + (1 : Int32)))) &&& (4294967295 : Int64)) ((gJ σ (gR σ x0 4) (ix (x4 + (2 : Int32)))) &&& (4294967295 : Int64))) rfl (Nat.le_of_ble_eq_true rfl) (Nat.le_of_ble_eq_true rfl) (Nat.le_of_ble_eq_true rfl) pu_I dX16_place_193 (fun r2 σ1 => ?_)
    refine g_if_ne 517 dX16_place_196 (by decide) ?_ ?_
    · exact g_return rfl dX16_place_517
    · refine g_aload_n 0 1 dX16_place_199 rfl rfl ?_
      refine g_iconst (v := 5) dX16_place_200 (by decide) ?_
      refine g_callV (fc := fun sς => Run_stop sς x0 (5 : Int32)) (ci := 16) (as := [iv (5 : Int32)]) rfl rfl rfl q2364 q2365 mdX16_226 (ctX16_stop x0 (5 : Int32)) rfl (Nat.le_of_ble_eq_true rfl) (Nat.le_of_ble_eq_true rfl) (Nat.le_of_ble_eq_true rfl) pu_V dX16_place_201 (fun _ σ3 => ?_)
      refine g_goto 517 dX16_place_204 (by decide) ?_
      exact g_return rfl dX16_place_517
  refine g_case hx (t := 207) (by decide +kernel) ?_ (fun hx => ?_)
  · refine g_aload_n 0 1 dX16_place_207 rfl rfl ?_
    refine g_getR fdX16_54 dX16_place_208 ?_
    refine g_iload 6 dX16_place_211 rfl ?_
    refine g_iload_n 2 3 dX16_place_213 rfl rfl ?_
    refine g_callV (fc := fun sς => Sto_dropData sς (gR σ x0 3) x5 x2) (ci := 13) (as := [iv x5, iv x2]) rfl rfl rfl q2352 q2353 mdX16_281 (ctX13_dropData (gR σ x0 3) x5 x2) rfl (Nat.le_of_ble_eq_true rfl) (Nat.le_of_ble_eq_true rfl) (Nat.le_of_ble_eq_true rfl) pu_V dX16_place_214 (fun _ σ4 => ?_)
    refine g_goto 517 dX16_place_217 (by decide) ?_
    exact g_return rfl dX16_place_517
  refine g_case hx (t := 220) (by decide +kernel) ?_ (fun hx => ?_)
  · refine G.sub [1, 2, 5, 0] rfl ?_
    exact gX16_place_p220 _ _ _ _ _
  refine g_case hx (t := 220) (by decide +kernel) ?_ (fun hx => ?_)
  · refine G.sub [1, 2, 5, 0] rfl ?_
    exact gX16_place_p220 _ _ _ _ _
  refine g_case hx (t := 252) (by decide +kernel) ?_ (fun hx => ?_)
  · refine g_aload_n 0 1 dX16_place_252 rfl rfl ?_
    refine g_getR fdX16_54 dX16_place_253 ?_
    refine g_iload 6 dX16_place_256 rfl ?_
    refine g_iload_n 2 3 dX16_place_258 rfl rfl ?_
    refine g_iload_n 3 4 dX16_place_259 rfl rfl ?_
    refine g_lload 0 dX16_place_260 rfl ?_
    refine g_aload_n 0 1 dX16_place_262 rfl rfl ?_
    refine g_getR fdX16_9 dX16_place_263 ?_
    refine g_iload 5 dX16_place_266 rfl ?_
    refine g_iconst (v := 1) dX16_place_268 (by decide) ?_
    refine g_iadd dX16_place_269 ?_
    refine g_laload dX16_place_270 ?_
    refine g_ldc2 q2717 dX16_place_271 ?_
    refine g_land dX16_place_274 ?_
    refine g_aload_n 0 1 dX16_place_275 rfl rfl ?_
    refine g_getR fdX16_9 dX16_place_276 ?_
    refine g_iload 5 dX16_place_279 rfl ?_
    refine g_iconst (v := 2) dX16_place_281 (by decide) ?_
    refine g_iadd dX16_place_282 ?_
    refine g_laload dX16_place_283 ?_
    refine g_ldc2 q2717 dX16_place_284 ?_
    refine g_land dX16_place_287 ?_
    refine g_callV (fc := fun sς => Sto_initTable sς (gR σ x0 3) x5 x2 x3 s0 ((gJ σ (gR σ x0 4) (ix (x4 + (1 : Int32)))) &&& (4294967295 : Int64)) ((gJ σ (gR σ x0 4) (ix (x4 + (2 : Int32)))) &&& (4294967295 : Int64))) (ci := 13) (as := [iv x5, iv x2, iv x3, jv s0, jv ((gJ σ (gR σ x0 4) (ix (x4 + (1 : Int32)))) &&& (4294967295 : Int64)), jv ((gJ σ (gR σ x0 4) (ix (x4 + (2 : Int32)))) &&& (4294967295 : Int64))]) rfl rfl rfl q2323 q2324 mdX16_288 (ctX13_initTable (gR σ x0 3) x5 x2 x3 s0 ((gJ σ (gR σ x0 4) (ix (x4 + (1 : Int32)))) &&& (4294967295 : Int64)) ((gJ σ (gR σ x0 4) (ix (x4 + (2 : Int32)))) &&& (4294967295 : Int64))) rfl (Nat.le_of_ble_eq_true rfl) (Nat.le_of_ble_eq_true rfl) (Nat.le_of_ble_eq_true rfl) pu_I dX16_place_288 (fun r6 σ5 => ?_)
    refine g_if_ne 517 dX16_place_291 (by decide) ?_ ?_
    · exact g_return rfl dX16_place_517
    · refine g_aload_n 0 1 dX16_place_294 rfl rfl ?_
      refine g_bipush (v := 6) dX16_place_295 (by decide) ?_
      refine g_callV (fc := fun sς => Run_stop sς x0 (6 : Int32)) (ci := 16) (as := [iv (6 : Int32)]) rfl rfl rfl q2364 q2365 mdX16_226 (ctX16_stop x0 (6 : Int32)) rfl (Nat.le_of_ble_eq_true rfl) (Nat.le_of_ble_eq_true rfl) (Nat.le_of_ble_eq_true rfl) pu_V dX16_place_297 (fun _ σ7 => ?_)
      refine g_goto 517 dX16_place_300 (by decide) ?_
      exact g_return rfl dX16_place_517
  refine g_case hx (t := 303) (by decide +kernel) ?_ (fun hx => ?_)
  · refine g_aload_n 0 1 dX16_place_303 rfl rfl ?_
    refine g_getR fdX16_54 dX16_place_304 ?_
    refine g_iload 6 dX16_place_307 rfl ?_
    refine g_iload_n 2 3 dX16_place_309 rfl rfl ?_
    refine g_callV (fc := fun sς => Sto_dropElement sς (gR σ x0 3) x5 x2) (ci := 13) (as := [iv x5, iv x2]) rfl rfl rfl q2331 q2332 mdX16_292 (ctX13_dropElement (gR σ x0 3) x5 x2) rfl (Nat.le_of_ble_eq_true rfl) (Nat.le_of_ble_eq_true rfl) (Nat.le_of_ble_eq_true rfl) pu_V dX16_place_310 (fun _ σ8 => ?_)
    refine g_goto 517 dX16_place_313 (by decide) ?_
    exact g_return rfl dX16_place_517
  refine g_case hx (t := 316) (by decide +kernel) ?_ (fun hx => ?_)
  · refine g_aload_n 0 1 dX16_place_316 rfl rfl ?_
    refine g_aload_n 0 1 dX16_place_317 rfl rfl ?_
    refine g_getR fdX16_54 dX16_place_318 ?_
    refine g_getR fdX16_214 dX16_place_321 ?_
    refine g_iload 6 dX16_place_324 rfl ?_
    refine g_aaload 4 rfl dX16_place_326 ?_
    refine g_iload_n 2 3 dX16_place_327 rfl rfl ?_
    refine g_callV (fc := fun sς => Row_at sς (gR σ (gR σ (gR σ x0 3) 16) (ix x5)) x2) (ci := 3) (as := [iv x2]) rfl rfl rfl q1409 q1410 mdX16_101 (ctX3_at (gR σ (gR σ (gR σ x0 3) 16) (ix x5)) x2) rfl (Nat.le_of_ble_eq_true rfl) (Nat.le_of_ble_eq_true rfl) (Nat.le_of_ble_eq_true rfl) pu_I dX16_place_328 (fun r10 σ9 => ?_)
    refine g_aload_n 0 1 dX16_place_331 rfl rfl ?_
    refine g_getR fdX16_54 dX16_place_332 ?_
    refine g_getR fdX16_214 dX16_place_335 ?_
    refine g_iload 6 dX16_place_338 rfl ?_
    refine g_aaload 4 rfl dX16_place_340 ?_
    refine g_iload_n 3 4 dX16_place_341 rfl rfl ?_
    refine g_callV (fc := fun sς => Row_at sς (gR σ9 (gR σ9 (gR σ9 x0 3) 16) (ix x5)) x3) (ci := 3) (as := [iv x3]) rfl rfl rfl q1409 q1410 mdX16_101 (ctX3_at (gR σ9 (gR σ9 (gR σ9 x0 3) 16) (ix x5)) x3) rfl (Nat.le_of_ble_eq_true rfl) (Nat.le_of_ble_eq_true rfl) (Nat.le_of_ble_eq_true rfl) pu_I dX16_place_342 (fun r12 σ11 => ?_)
    refine g_lload 0 dX16_place_345 rfl ?_
    refine g_aload_n 0 1 dX16_place_347 rfl rfl ?_
    refine g_getR fdX16_9 dX16_place_348 ?_
    refine g_iload 5 dX16_place_351 rfl ?_
    refine g_iconst (v := 1) dX16_place_353 (by decide) ?_
    refine g_iadd dX16_place_354 ?_
    refine g_laload dX16_place_355 ?_
    refine g_ldc2 q2717 dX16_place_356 ?_
    refine g_land dX16_place_359 ?_
    refine g_aload_n 0 1 dX16_place_360 rfl rfl ?_
    refine g_getR fdX16_9 dX16_place_361 ?_
    refine g_iload 5 dX16_place_364 rfl ?_
    refine g_iconst (v := 2) dX16_place_366 (by decide) ?_
    refine g_iadd dX16_place_367 ?_
    refine g_laload dX16_place_368 ?_
    refine g_ldc2 q2717 dX16_place_369 ?_
    refine g_land dX16_place_372 ?_
    refine g_callV (fc := fun sς => Run_copyTable sς x0 r10 r12 s0 ((gJ σ11 (gR σ11 x0 4) (ix (x4 + (1 : Int32)))) &&& (4294967295 : Int64)) ((gJ σ11 (gR σ11 x0 4) (ix (x4 + (2 : Int32)))) &&& (4294967295 : Int64))) (ci := 16) (as := [iv r10, iv r12, jv s0, jv ((gJ σ11 (gR σ11 x0 4) (ix (x4 + (1 : Int32)))) &&& (4294967295 : Int64)), jv ((gJ σ11 (gR σ11 x0 4) (ix (x4 + (2 : Int32)))) &&& (4294967295 : Int64))]) rfl rfl rfl q2796 qs194 mdX16_295 (ctX16_copyTable x0 r10 r12 s0 ((gJ σ11 (gR σ11 x0 4) (ix (x4 + (1 : Int32)))) &&& (4294967295 : Int64)) ((gJ σ11 (gR σ11 x0 4) (ix (x4 + (2 : Int32)))) &&& (4294967295 : Int64))) rfl (Nat.le_of_ble_eq_true rfl) (Nat.le_of_ble_eq_true rfl) (Nat.le_of_ble_eq_true rfl) pu_V dX16_place_373 (fun _ σ13 => ?_)
    refine g_goto 517 dX16_place_376 (by decide) ?_
    exact g_return rfl dX16_place_517
  refine g_case hx (t := 379) (by decide +kernel) ?_ (fun hx => ?_)
  · refine g_aload_n 0 1 dX16_place_379 rfl rfl ?_
    refine g_getR fdX16_9 dX16_place_380 ?_
    refine g_iload 5 dX16_place_383 rfl ?_
    refine g_aload_n 0 1 dX16_place_385 rfl rfl ?_
    refine g_getR fdX16_54 dX16_place_386 ?_
    refine g_getR fdX16_217 dX16_place_389 ?_
    refine g_aload_n 0 1 dX16_place_392 rfl rfl ?_
    refine g_getR fdX16_54 dX16_place_393 ?_
    refine g_getR fdX16_214 dX16_place_396 ?_
    refine g_iload 6 dX16_place_399 rfl ?_
    refine g_aaload 4 rfl dX16_place_401 ?_
    refine g_iload_n 2 3 dX16_place_402 rfl rfl ?_
    refine g_callV (fc := fun sς => Row_at sς (gR σ (gR σ (gR σ x0 3) 16) (ix x5)) x2) (ci := 3) (as := [iv x2]) rfl rfl rfl q1409 q1410 mdX16_101 (ctX3_at (gR σ (gR σ (gR σ x0 3) 16) (ix x5)) x2) rfl (Nat.le_of_ble_eq_true rfl) (Nat.le_of_ble_eq_true rfl) (Nat.le_of_ble_eq_true rfl) pu_I dX16_place_403 (fun r15 σ14 => ?_)
    refine g_aload_n 0 1 dX16_place_406 rfl rfl ?_
    refine g_getR fdX16_9 dX16_place_407 ?_
    refine g_iload 5 dX16_place_410 rfl ?_
    refine g_iconst (v := 1) dX16_place_412 (by decide) ?_
    refine g_iadd dX16_place_413 ?_
    refine g_laload dX16_place_414 ?_
    refine g_ldc2 q2717 dX16_place_415 ?_
    refine g_land dX16_place_418 ?_
    refine g_aload_n 0 1 dX16_place_419 rfl rfl ?_
    refine g_getR fdX16_9 dX16_place_420 ?_
    refine g_iload 5 dX16_place_423 rfl ?_
    refine g_laload dX16_place_425 ?_
    refine g_l2i dX16_place_426 ?_
    refine g_callV (fc := fun sς => Tab_grow sς (gR σ (gR σ x0 3) 7) r15 ((gJ σ14 (gR σ14 x0 4) (ix (x4 + (1 : Int32)))) &&& (4294967295 : Int64)) ((gJ σ14 (gR σ14 x0 4) (ix x4)).toInt32)) (ci := 14) (as := [iv r15, jv ((gJ σ14 (gR σ14 x0 4) (ix (x4 + (1 : Int32)))) &&& (4294967295 : Int64)), iv ((gJ σ14 (gR σ14 x0 4) (ix x4)).toInt32)]) rfl rfl rfl q2288 q2289 mdX16_299 (ctX14_grow (gR σ (gR σ x0 3) 7) r15 ((gJ σ14 (gR σ14 x0 4) (ix (x4 + (1 : Int32)))) &&& (4294967295 : Int64)) ((gJ σ14 (gR σ14 x0 4) (ix x4)).toInt32)) rfl (Nat.le_of_ble_eq_true rfl) (Nat.le_of_ble_eq_true rfl) (Nat.le_of_ble_eq_true rfl) pu_I dX16_place_427 (fun r17 σ16 => ?_)
    refine g_i2l dX16_place_430 ?_
    refine g_ldc2 q2717 dX16_place_431 ?_
    refine g_land dX16_place_434 ?_
    refine g_lastore dX16_place_435 (fun σ18 => ?_)
    refine g_goto 517 dX16_place_436 (by decide) ?_
    exact g_return rfl dX16_place_517
  refine g_case hx (t := 439) (by decide +kernel) ?_ (fun hx => ?_)
  · refine g_aload_n 0 1 dX16_place_439 rfl rfl ?_
    refine g_getR fdX16_9 dX16_place_440 ?_
    refine g_iload 5 dX16_place_443 rfl ?_
    refine g_aload_n 0 1 dX16_place_445 rfl rfl ?_
    refine g_getR fdX16_54 dX16_place_446 ?_
    refine g_getR fdX16_217 dX16_place_449 ?_
    refine g_aload_n 0 1 dX16_place_452 rfl rfl ?_
    refine g_getR fdX16_54 dX16_place_453 ?_
    refine g_getR fdX16_214 dX16_place_456 ?_
    refine g_iload 6 dX16_place_459 rfl ?_
    refine g_aaload 4 rfl dX16_place_461 ?_
    refine g_iload_n 2 3 dX16_place_462 rfl rfl ?_
    refine g_callV (fc := fun sς => Row_at sς (gR σ (gR σ (gR σ x0 3) 16) (ix x5)) x2) (ci := 3) (as := [iv x2]) rfl rfl rfl q1409 q1410 mdX16_101 (ctX3_at (gR σ (gR σ (gR σ x0 3) 16) (ix x5)) x2) rfl (Nat.le_of_ble_eq_true rfl) (Nat.le_of_ble_eq_true rfl) (Nat.le_of_ble_eq_true rfl) pu_I dX16_place_463 (fun r20 σ19 => ?_)
    refine g_callV (fc := fun sς => Tab_size sς (gR σ (gR σ x0 3) 7) r20) (ci := 14) (as := [iv r20]) rfl rfl rfl q2216 q2217 mdX16_221 (ctX14_size (gR σ (gR σ x0 3) 7) r20) rfl (Nat.le_of_ble_eq_true rfl) (Nat.le_of_ble_eq_true rfl) (Nat.le_of_ble_eq_true rfl) pu_I dX16_place_466 (fun r22 σ21 => ?_)
    refine g_i2l dX16_place_469 ?_
    refine g_lastore dX16_place_470 (fun σ23 => ?_)
    refine g_goto 517 dX16_place_471 (by decide) ?_
    exact g_return rfl dX16_place_517
  refine g_dflt (t := 474) (lswT_d (by decide +kernel) hx) ?_
  refine g_aload_n 0 1 dX16_place_474 rfl rfl ?_
  refine g_aload_n 0 1 dX16_place_475 rfl rfl ?_
  refine g_getR fdX16_54 dX16_place_476 ?_
  refine g_getR fdX16_214 dX16_place_479 ?_
  refine g_iload 6 dX16_place_482 rfl ?_
  refine g_aaload 4 rfl dX16_place_484 ?_
  refine g_iload_n 2 3 dX16_place_485 rfl rfl ?_
  refine g_callV (fc := fun sς => Row_at sς (gR σ (gR σ (gR σ x0 3) 16) (ix x5)) x2) (ci := 3) (as := [iv x2]) rfl rfl rfl q1409 q1410 mdX16_101 (ctX3_at (gR σ (gR σ (gR σ x0 3) 16) (ix x5)) x2) rfl (Nat.le_of_ble_eq_true rfl) (Nat.le_of_ble_eq_true rfl) (Nat.le_of_ble_eq_true rfl) pu_I dX16_place_486 (fun r25 σ24 => ?_)
  refine g_lload 0 dX16_place_489 rfl ?_
  refine g_aload_n 0 1 dX16_place_491 rfl rfl ?_
  refine g_getR fdX16_9 dX16_place_492 ?_
  refine g_iload 5 dX16_place_495 rfl ?_
  refine g_iconst (v := 1) dX16_place_497 (by decide) ?_
  refine g_iadd dX16_place_498 ?_
  refine g_laload dX16_place_499 ?_
  refine g_l2i dX16_place_500 ?_
  refine g_aload_n 0 1 dX16_place_501 rfl rfl ?_
  refine g_getR fdX16_9 dX16_place_502 ?_
  refine g_iload 5 dX16_place_505 rfl ?_
  refine g_iconst (v := 2) dX16_place_507 (by decide) ?_
  refine g_iadd dX16_place_508 ?_
  refine g_laload dX16_place_509 ?_
  refine g_ldc2 q2717 dX16_place_510 ?_
  refine g_land dX16_place_513 ?_
  refine g_callV (fc := fun sς => Run_fillTable sς x0 r25 s0 ((gJ σ24 (gR σ24 x0 4) (ix (x4 + (1 : Int32)))).toInt32) ((gJ σ24 (gR σ24 x0 4) (ix (x4 + (2 : Int32)))) &&& (4294967295 : Int64))) (ci := 16) (as := [iv r25, jv s0, iv ((gJ σ24 (gR σ24 x0 4) (ix (x4 + (1 : Int32)))).toInt32), jv ((gJ σ24 (gR σ24 x0 4) (ix (x4 + (2 : Int32)))) &&& (4294967295 : Int64))]) rfl rfl rfl q2807 qs195 mdX16_302 (ctX16_fillTable x0 r25 s0 ((gJ σ24 (gR σ24 x0 4) (ix (x4 + (1 : Int32)))).toInt32) ((gJ σ24 (gR σ24 x0 4) (ix (x4 + (2 : Int32)))) &&& (4294967295 : Int64))) rfl (Nat.le_of_ble_eq_true rfl) (Nat.le_of_ble_eq_true rfl) (Nat.le_of_ble_eq_true rfl) pu_V dX16_place_514 (fun _ σ26 => ?_)
  exact g_return rfl dX16_place_517
def V.Run_place (σ : HS) (x0 : Nat) (x1 : Int32) (x2 : Int32) (x3 : Int32) (x4 : Int32) : Option (Unit × HS) :=
  ck (tg σ x0 = 17) <| cl (Run_instance σ x0 ) fun r2 σ1 =>
  ck (tg σ1 x0 = 17) <|
  ck (tg σ1 (gR σ1 x0 0) = 7) <| cl (Flt_in σ1 (gR σ1 x0 0) x1) fun r4 σ3 =>
  if r4 ≤ 0 then (
    Run_place_p32 σ3 x0 x1 x2 x3 x4 r2 (0 : Int64))
  else (
    ck (tg σ3 x0 = 17) <|
    ck (tg σ3 (gR σ3 x0 4) = 101 ∧ inb x4 (ln σ3 (gR σ3 x0 4))) <|
    Run_place_p32 σ3 x0 x1 x2 x3 x4 r2 ((gJ σ3 (gR σ3 x0 4) (ix x4)) &&& (4294967295 : Int64)))
theorem V.ctX16_place (x0 : Nat) (x1 : Int32) (x2 : Int32) (x3 : Int32) (x4 : Int32) : Ct yX16_place  cX16_place 8 none 4 109 eV [av x0, iv x1, iv x2, iv x3, iv x4] (fun σ => Run_place σ x0 x1 x2 x3 x4) := by
  refine Ct.of (own := RX16) (nm := "place") (desc := "(IIII)V") rfl (by decide) (Nat.le_of_ble_eq_true rfl) (by decide) (fun X σ => ?_)
  show G X RX16 "place" cX16_place 8 none 4 109 enV 0 [(0, av x0), (1, iv x1), (2, iv x2), (3, iv x3), (4, iv x4)] [] σ (Run_place σ x0 x1 x2 x3 x4)
  unfold Run_place
  refine g_aload_n 0 0 dX16_place_0 rfl rfl ?_
  refine g_callV (fc := fun sς => Run_instance sς x0 ) (ci := 16) (as := []) rfl rfl rfl q2732 qs185 mdX16_211 (ctX16_instance x0 ) rfl (Nat.le_of_ble_eq_true rfl) (Nat.le_of_ble_eq_true rfl) (Nat.le_of_ble_eq_true rfl) pu_I dX16_place_1 (fun r2 σ1 => ?_)
  refine g_istore dX16_place_4 (by decide) rfl ?_
  refine g_aload_n 0 1 dX16_place_6 rfl rfl ?_
  refine g_getR fdX16_42 dX16_place_7 ?_
  refine g_iload_n 1 2 dX16_place_10 rfl rfl ?_
  refine g_callV (fc := fun sς => Flt_in sς (gR σ1 x0 0) x1) (ci := 6) (as := [iv x1]) rfl rfl rfl q2121 q2122 mdX16_270 (ctX6_in (gR σ1 x0 0) x1) rfl (Nat.le_of_ble_eq_true rfl) (Nat.le_of_ble_eq_true rfl) (Nat.le_of_ble_eq_true rfl) pu_I dX16_place_11 (fun r4 σ3 => ?_)
  refine g_if_le 31 dX16_place_14 (by decide) ?_ ?_
  · refine g_lconst (v := 0) dX16_place_31 (by decide) ?_
    refine G.sub [1, 2, 3, 4, 5, 0] rfl ?_
    exact gX16_place_p32 _ _ _ _ _ _ _ _
  · refine g_aload_n 0 1 dX16_place_17 rfl rfl ?_
    refine g_getR fdX16_9 dX16_place_18 ?_
    refine g_iload 5 dX16_place_21 rfl ?_
    refine g_laload dX16_place_23 ?_
    refine g_ldc2 q2717 dX16_place_24 ?_
    refine g_land dX16_place_27 ?_
    refine g_goto 32 dX16_place_28 (by decide) ?_
    refine G.sub [1, 2, 3, 4, 5, 0] rfl ?_
    exact gX16_place_p32 _ _ _ _ _ _ _ _
