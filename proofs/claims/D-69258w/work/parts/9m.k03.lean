/-! the law's walk: cases -/
section LC
variable {R : lAR} {E : lE} {ad : List Nat} {b n : Nat} {f : Nat → Int32} {h1 o1 o i K N : Nat} {y : lY} {s : CS} {A : lMem} {own : Nat → Nat} {t : TS} {Z : lZ}
theorem lc_fact (hR : lRok R) (hJ : JAll R E) (hn : tOk ad) (hn8 : n ≤ 448) (hi : i + 7 ≤ n) (h : LV E ad b n f h1 o1 o y s A own t K N) (hK : K < 900) (hc : s.2.2.1 < 3800000000) (k : LK R E b n f h1 o1 o i s own t K N 91 276 Z) : lQ R E 1625 cd_L 744 (LL ad b h1 o1 i) [] (cp y s A) Z := by
  obtain ⟨hI, r, f1, f3⟩ := h
  obtain ⟨kk, S, x, t', own', K', N', c1, d1, th, ov, r', kK, kc, ks⟩ := lwa_fact r (((f (i + 1)).toInt64 <<< ((32 : Int32).toInt64 &&& 63)) ||| ((f (i + 2)).toInt64 &&& 4294967295)) (f (i + 3))
  refine lQ.loadN (cLg 744 rfl) rfl ?_
  refine lQ.loadN (cLg 745 rfl) rfl ?_
  refine lQ.loadI (cLg 746 rfl) rfl ?_
  refine lQ.push (cLg 747 rfl) ?_
  refine lQ.binI (cLg 748 rfl) ?_
  refine lQ.ald hR (cLg 749 rfl) (hI.scr hn8 1 (by omega)) ?_
  refine lQ.i2l (cLg 750 rfl) ?_
  refine lQ.push (cLg 751 rfl) ?_
  refine lQ.shL (cLg 752 rfl) ?_
  refine lQ.loadN (cLg 753 rfl) rfl ?_
  refine lQ.loadI (cLg 754 rfl) rfl ?_
  refine lQ.push (cLg 755 rfl) ?_
  refine lQ.binI (cLg 756 rfl) ?_
  refine lQ.ald hR (cLg 757 rfl) (hI.scr hn8 2 (by omega)) ?_
  refine lQ.i2l (cLg 758 rfl) ?_
  refine lQ.push (cLg 759 rfl) ?_
  refine lQ.binL (cLg 760 rfl) ?_
  refine lQ.binL (cLg 761 rfl) ?_
  refine lQ.loadN (cLg 762 rfl) rfl ?_
  refine lQ.loadI (cLg 763 rfl) rfl ?_
  refine lQ.push (cLg 764 rfl) ?_
  refine lQ.binI (cLg 765 rfl) ?_
  refine lQ.ald hR (cLg 766 rfl) (hI.scr hn8 3 (by omega)) ?_
  refine lQ.loadN (cLg 767 rfl) rfl ?_
  refine lQ.callG (args := [.ref h1, .long (((f (i + 1)).toInt64 <<< ((32 : Int32).toInt64 &&& 63)) ||| ((f (i + 2)).toInt64 &&& 4294967295)), .int (f (i + 3)), .ref o1]) (r := []) hR (cLg 768 rfl) rfl rfl (Nat.le_of_ble_eq_true rfl) (Nat.le_of_ble_eq_true rfl) (cs_327 hR hJ hI.1 (w0 := some h1) (w4 := some o1) f1 f3 c1) ?_ (fun _ _ _ z => by cases z.1)
  rintro _ _ ⟨e_, y, A, hW, hX, rfl⟩
  cases e_
  have f1 := hX.1 _ _ f1
  have f3 := hX.1 _ _ f3
  have hI := hI.ext hW hX
  refine lQ.stI (cLg 769 rfl) (lN2s rfl rfl) ?_
  refine lQ.loadN (cLg 770 rfl) rfl ?_
  refine lQ.loadN (cLg 771 rfl) rfl ?_
  refine lQ.loadI (cLg 772 rfl) rfl ?_
  refine lQ.push (cLg 773 rfl) ?_
  refine lQ.binI (cLg 774 rfl) ?_
  refine lQ.ald hR (cLg 775 rfl) (hI.scr hn8 1 (by omega)) ?_
  refine lQ.i2l (cLg 776 rfl) ?_
  refine lQ.push (cLg 777 rfl) ?_
  refine lQ.shL (cLg 778 rfl) ?_
  refine lQ.loadN (cLg 779 rfl) rfl ?_
  refine lQ.loadI (cLg 780 rfl) rfl ?_
  refine lQ.push (cLg 781 rfl) ?_
  refine lQ.binI (cLg 782 rfl) ?_
  refine lQ.ald hR (cLg 783 rfl) (hI.scr hn8 2 (by omega)) ?_
  refine lQ.i2l (cLg 784 rfl) ?_
  refine lQ.push (cLg 785 rfl) ?_
  refine lQ.binL (cLg 786 rfl) ?_
  refine lQ.binL (cLg 787 rfl) ?_
  refine lQ.loadN (cLg 788 rfl) rfl ?_
  refine lQ.loadI (cLg 789 rfl) rfl ?_
  refine lQ.push (cLg 790 rfl) ?_
  refine lQ.binI (cLg 791 rfl) ?_
  refine lQ.ald hR (cLg 792 rfl) (hI.scr hn8 3 (by omega)) ?_
  rw [hI.sw]
  refine lQ.callVL (F := fun z B => x = z ∧ B = tp ad t' (cp y S A)) (G := fun _ _ => False) (args := [.ref (adr ad 0), .long (((f (i + 1)).toInt64 <<< ((32 : Int32).toInt64 &&& 63)) ||| ((f (i + 2)).toInt64 &&& 4294967295)), .int (f (i + 3))]) (r := []) hR (cLg 793 rfl) rfl rfl (Nat.le_of_ble_eq_true rfl) (Nat.le_of_ble_eq_true rfl) rfl (tk_0 hn rfl) (ts_577 hR hn d1 (cL_mk ⟨rfl, rfl⟩)) ?_ (fun _ _ _ z => z.elim)
  rintro _ _ ⟨rfl, rfl⟩
  refine lQ.stL (cLg 794 rfl) (lN2s rfl rfl) rfl ?_
  refine lQ.loadN (cLg 795 rfl) rfl ?_
  refine lQ.callVI (F := fun z B => t'.1 0 = z ∧ B = tp ad t' (cp y S A)) (G := fun _ _ => False) (args := [.ref (adr ad 0)]) (r := []) hR (cLg 796 rfl) rfl rfl (Nat.le_of_ble_eq_true rfl) (Nat.le_of_ble_eq_true rfl) rfl (tk_0 hn rfl) (ts_556 hR hn (x := t'.1 0) rfl (cI_mk ⟨rfl, rfl⟩)) ?_ (fun _ _ _ z => z.elim)
  rintro _ _ ⟨rfl, rfl⟩
  rw [hI.mv SDa.rf t']
  have hI := hI.tw SDa.rf t'
  refine lQ.loadI (cLg 797 rfl) rfl ?_
  refine lQ.cmpT (cLg 798 rfl) (decide_eq_true th) ?_
  refine lQ.loadI (cLg 801 rfl) rfl ?_
  by_cases hk : kk = 0
  · refine lQ.ifF (cLg 802 rfl) (decide_eq_false (fun z => z hk)) ?_
    have hv := ov _ hk rfl
    have g3 := LV_out hI.1 f3 hv
    refine lQ.loadN (cLg 803 rfl) rfl ?_
    refine lQ.push (cLg 804 rfl) ?_
    refine lQ.ald hR (cLg 805 rfl) g3 ?_
    refine lQ.loadL (cLg 806 rfl) rfl ?_
    refine lQ.lcmp (cLg 807 rfl) ?_
    refine lQ.ifT (cLg 808 rfl) (decide_eq_true (lg_cmp_rf _)) ?_
    refine lQ.goto (cLg 811 rfl) ?_
    exact lQ.sub (LLs (by rfl) (by rfl) (by rfl) (by rfl) (by rfl)) (k _ _ _ _ _ _ _ _ hn ⟨hI, r', f1, f3⟩ kK kc ks ((k1_577 K1N.rf).2 _ d1).2)
  · refine lQ.ifT (cLg 802 rfl) (decide_eq_true hk) ?_
    refine lQ.goto (cLg 811 rfl) ?_
    exact lQ.sub (LLs (by rfl) (by rfl) (by rfl) (by rfl) (by rfl)) (k _ _ _ _ _ _ _ _ hn ⟨hI, r', f1, f3⟩ kK kc ks ((k1_577 K1N.rf).2 _ d1).2)
theorem lc_measure (hR : lRok R) (hJ : JAll R E) (hn : tOk ad) (hn8 : n ≤ 448) (hi : i + 7 ≤ n) (h : LV E ad b n f h1 o1 o y s A own t K N) (hK : K < 900) (hc : s.2.2.1 < 3800000000) (k : LK R E b n f h1 o1 o i s own t K N 700 2600 Z) : lQ R E 1625 cd_L 812 (LL ad b h1 o1 i) [] (cp y s A) Z := by
  obtain ⟨hI, r, f1, f3⟩ := h
  obtain ⟨kk, S, x, t', own', K', N', c1, d1, th, ov, r', kK, kc, ks⟩ := lwa_measure r (f (i + 1)) (f (i + 2)) (((f (i + 3)).toInt64 <<< ((32 : Int32).toInt64 &&& 63)) ||| ((f (i + 4)).toInt64 &&& 4294967295))
  refine lQ.loadN (cLg 812 rfl) rfl ?_
  refine lQ.loadN (cLg 813 rfl) rfl ?_
  refine lQ.loadI (cLg 814 rfl) rfl ?_
  refine lQ.push (cLg 815 rfl) ?_
  refine lQ.binI (cLg 816 rfl) ?_
  refine lQ.ald hR (cLg 817 rfl) (hI.scr hn8 1 (by omega)) ?_
  refine lQ.loadN (cLg 818 rfl) rfl ?_
  refine lQ.loadI (cLg 819 rfl) rfl ?_
  refine lQ.push (cLg 820 rfl) ?_
  refine lQ.binI (cLg 821 rfl) ?_
  refine lQ.ald hR (cLg 822 rfl) (hI.scr hn8 2 (by omega)) ?_
  refine lQ.loadN (cLg 823 rfl) rfl ?_
  refine lQ.loadI (cLg 824 rfl) rfl ?_
  refine lQ.push (cLg 825 rfl) ?_
  refine lQ.binI (cLg 826 rfl) ?_
  refine lQ.ald hR (cLg 827 rfl) (hI.scr hn8 3 (by omega)) ?_
  refine lQ.i2l (cLg 828 rfl) ?_
  refine lQ.push (cLg 829 rfl) ?_
  refine lQ.shL (cLg 830 rfl) ?_
  refine lQ.loadN (cLg 831 rfl) rfl ?_
  refine lQ.loadI (cLg 832 rfl) rfl ?_
  refine lQ.push (cLg 833 rfl) ?_
  refine lQ.binI (cLg 834 rfl) ?_
  refine lQ.ald hR (cLg 835 rfl) (hI.scr hn8 4 (by omega)) ?_
  refine lQ.i2l (cLg 836 rfl) ?_
  refine lQ.push (cLg 837 rfl) ?_
  refine lQ.binL (cLg 838 rfl) ?_
  refine lQ.binL (cLg 839 rfl) ?_
  refine lQ.loadN (cLg 840 rfl) rfl ?_
  refine lQ.callG (args := [.ref h1, .int (f (i + 1)), .int (f (i + 2)), .long (((f (i + 3)).toInt64 <<< ((32 : Int32).toInt64 &&& 63)) ||| ((f (i + 4)).toInt64 &&& 4294967295)), .ref o1]) (r := []) hR (cLg 841 rfl) rfl rfl (Nat.le_of_ble_eq_true rfl) (Nat.le_of_ble_eq_true rfl) (cs_328 hR hJ hI.1 (w0 := some h1) (w5 := some o1) f1 f3 c1) ?_ (fun _ _ _ z => by cases z.1)
  rintro _ _ ⟨e_, y, A, hW, hX, rfl⟩
  cases e_
  have f1 := hX.1 _ _ f1
  have f3 := hX.1 _ _ f3
  have hI := hI.ext hW hX
  refine lQ.stI (cLg 842 rfl) (lN2s rfl rfl) ?_
  refine lQ.loadN (cLg 843 rfl) rfl ?_
  refine lQ.loadN (cLg 844 rfl) rfl ?_
  refine lQ.loadI (cLg 845 rfl) rfl ?_
  refine lQ.push (cLg 846 rfl) ?_
  refine lQ.binI (cLg 847 rfl) ?_
  refine lQ.ald hR (cLg 848 rfl) (hI.scr hn8 1 (by omega)) ?_
  refine lQ.loadN (cLg 849 rfl) rfl ?_
  refine lQ.loadI (cLg 850 rfl) rfl ?_
  refine lQ.push (cLg 851 rfl) ?_
  refine lQ.binI (cLg 852 rfl) ?_
  refine lQ.ald hR (cLg 853 rfl) (hI.scr hn8 2 (by omega)) ?_
  refine lQ.loadN (cLg 854 rfl) rfl ?_
  refine lQ.loadI (cLg 855 rfl) rfl ?_
  refine lQ.push (cLg 856 rfl) ?_
  refine lQ.binI (cLg 857 rfl) ?_
  refine lQ.ald hR (cLg 858 rfl) (hI.scr hn8 3 (by omega)) ?_
  refine lQ.i2l (cLg 859 rfl) ?_
  refine lQ.push (cLg 860 rfl) ?_
  refine lQ.shL (cLg 861 rfl) ?_
  refine lQ.loadN (cLg 862 rfl) rfl ?_
  refine lQ.loadI (cLg 863 rfl) rfl ?_
  refine lQ.push (cLg 864 rfl) ?_
  refine lQ.binI (cLg 865 rfl) ?_
  refine lQ.ald hR (cLg 866 rfl) (hI.scr hn8 4 (by omega)) ?_
  refine lQ.i2l (cLg 867 rfl) ?_
  refine lQ.push (cLg 868 rfl) ?_
  refine lQ.binL (cLg 869 rfl) ?_
  refine lQ.binL (cLg 870 rfl) ?_
  rw [hI.sw]
  refine lQ.callVI (F := fun z B => x = z ∧ B = tp ad t' (cp y S A)) (G := fun _ _ => False) (args := [.ref (adr ad 0), .int (f (i + 1)), .int (f (i + 2)), .long (((f (i + 3)).toInt64 <<< ((32 : Int32).toInt64 &&& 63)) ||| ((f (i + 4)).toInt64 &&& 4294967295))]) (r := []) hR (cLg 871 rfl) rfl rfl (Nat.le_of_ble_eq_true rfl) (Nat.le_of_ble_eq_true rfl) rfl (tk_0 hn rfl) (ts_579 hR hn d1 (cI_mk ⟨rfl, rfl⟩)) ?_ (fun _ _ _ z => z.elim)
  rintro _ _ ⟨rfl, rfl⟩
  refine lQ.stI (cLg 872 rfl) (lN2s rfl rfl) ?_
  refine lQ.loadN (cLg 873 rfl) rfl ?_
  refine lQ.callVI (F := fun z B => t'.1 0 = z ∧ B = tp ad t' (cp y S A)) (G := fun _ _ => False) (args := [.ref (adr ad 0)]) (r := []) hR (cLg 874 rfl) rfl rfl (Nat.le_of_ble_eq_true rfl) (Nat.le_of_ble_eq_true rfl) rfl (tk_0 hn rfl) (ts_556 hR hn (x := t'.1 0) rfl (cI_mk ⟨rfl, rfl⟩)) ?_ (fun _ _ _ z => z.elim)
  rintro _ _ ⟨rfl, rfl⟩
  rw [hI.mv SDa.rf t']
  have hI := hI.tw SDa.rf t'
  refine lQ.loadI (cLg 875 rfl) rfl ?_
  refine lQ.cmpT (cLg 876 rfl) (decide_eq_true th) ?_
  refine lQ.loadI (cLg 879 rfl) rfl ?_
  by_cases hk : kk = 0
  · refine lQ.ifF (cLg 880 rfl) (decide_eq_false (fun z => z hk)) ?_
    have hv := ov _ hk rfl
    have g3 := LV_out hI.1 f3 hv
    refine lQ.loadN (cLg 881 rfl) rfl ?_
    refine lQ.push (cLg 882 rfl) ?_
    refine lQ.ald hR (cLg 883 rfl) g3 ?_
    refine lQ.loadI (cLg 884 rfl) rfl ?_
    refine lQ.i2l (cLg 885 rfl) ?_
    refine lQ.lcmp (cLg 886 rfl) ?_
    refine lQ.ifT (cLg 887 rfl) (decide_eq_true (lg_cmp_rf _)) ?_
    refine lQ.goto (cLg 890 rfl) ?_
    exact lQ.sub (LLs (by rfl) (by rfl) (by rfl) (by rfl) (by rfl)) (k _ _ _ _ _ _ _ _ hn ⟨hI, r', f1, f3⟩ kK kc ks ((k1_579 K1N.rf).2 _ d1).2)
  · refine lQ.ifT (cLg 880 rfl) (decide_eq_true hk) ?_
    refine lQ.goto (cLg 890 rfl) ?_
    exact lQ.sub (LLs (by rfl) (by rfl) (by rfl) (by rfl) (by rfl)) (k _ _ _ _ _ _ _ _ hn ⟨hI, r', f1, f3⟩ kK kc ks ((k1_579 K1N.rf).2 _ d1).2)
theorem lc_check (hR : lRok R) (hJ : JAll R E) (hn : tOk ad) (hn8 : n ≤ 448) (hi : i + 7 ≤ n) (h : LV E ad b n f h1 o1 o y s A own t K N) (hK : K < 900) (hc : s.2.2.1 < 3800000000) (k : LK R E b n f h1 o1 o i s own t K N 1801 5206 Z) : lQ R E 1625 cd_L 891 (LL ad b h1 o1 i) [] (cp y s A) Z := by
  obtain ⟨hI, r, f1, f3⟩ := h
  obtain ⟨kk, S, x, t', own', K', N', c1, d1, th, ov, r', kK, kc, ks⟩ := lwa_check r (f (i + 1))
  refine lQ.loadN (cLg 891 rfl) rfl ?_
  refine lQ.loadN (cLg 892 rfl) rfl ?_
  refine lQ.loadI (cLg 893 rfl) rfl ?_
  refine lQ.push (cLg 894 rfl) ?_
  refine lQ.binI (cLg 895 rfl) ?_
  refine lQ.ald hR (cLg 896 rfl) (hI.scr hn8 1 (by omega)) ?_
  refine lQ.loadN (cLg 897 rfl) rfl ?_
  refine lQ.callG (args := [.ref h1, .int (f (i + 1)), .ref o1]) (r := []) hR (cLg 898 rfl) rfl rfl (Nat.le_of_ble_eq_true rfl) (Nat.le_of_ble_eq_true rfl) (cs_329 hR hJ hI.1 (w0 := some h1) (w2 := some o1) f1 f3 c1) ?_ (fun _ _ _ z => by cases z.1)
  rintro _ _ ⟨e_, y, A, hW, hX, rfl⟩
  cases e_
  have f1 := hX.1 _ _ f1
  have f3 := hX.1 _ _ f3
  have hI := hI.ext hW hX
  refine lQ.stI (cLg 899 rfl) (lN2s rfl rfl) ?_
  refine lQ.loadN (cLg 900 rfl) rfl ?_
  refine lQ.loadN (cLg 901 rfl) rfl ?_
  refine lQ.loadI (cLg 902 rfl) rfl ?_
  refine lQ.push (cLg 903 rfl) ?_
  refine lQ.binI (cLg 904 rfl) ?_
  refine lQ.ald hR (cLg 905 rfl) (hI.scr hn8 1 (by omega)) ?_
  rw [hI.sw]
  refine lQ.callVI (F := fun z B => x = z ∧ B = tp ad t' (cp y S A)) (G := fun _ _ => False) (args := [.ref (adr ad 0), .int (f (i + 1))]) (r := []) hR (cLg 906 rfl) rfl rfl (Nat.le_of_ble_eq_true rfl) (Nat.le_of_ble_eq_true rfl) rfl (tk_0 hn rfl) (ts_580 hR hn d1 (cI_mk ⟨rfl, rfl⟩)) ?_ (fun _ _ _ z => z.elim)
  rintro _ _ ⟨rfl, rfl⟩
  refine lQ.stI (cLg 907 rfl) (lN2s rfl rfl) ?_
  refine lQ.loadN (cLg 908 rfl) rfl ?_
  refine lQ.callVI (F := fun z B => t'.1 0 = z ∧ B = tp ad t' (cp y S A)) (G := fun _ _ => False) (args := [.ref (adr ad 0)]) (r := []) hR (cLg 909 rfl) rfl rfl (Nat.le_of_ble_eq_true rfl) (Nat.le_of_ble_eq_true rfl) rfl (tk_0 hn rfl) (ts_556 hR hn (x := t'.1 0) rfl (cI_mk ⟨rfl, rfl⟩)) ?_ (fun _ _ _ z => z.elim)
  rintro _ _ ⟨rfl, rfl⟩
  rw [hI.mv SDa.rf t']
  have hI := hI.tw SDa.rf t'
  refine lQ.loadI (cLg 910 rfl) rfl ?_
  refine lQ.cmpT (cLg 911 rfl) (decide_eq_true th) ?_
  refine lQ.loadI (cLg 914 rfl) rfl ?_
  by_cases hk : kk = 0
  · refine lQ.ifF (cLg 915 rfl) (decide_eq_false (fun z => z hk)) ?_
    have hv := ov _ hk rfl
    have g3 := LV_out hI.1 f3 hv
    refine lQ.loadN (cLg 916 rfl) rfl ?_
    refine lQ.push (cLg 917 rfl) ?_
    refine lQ.ald hR (cLg 918 rfl) g3 ?_
    refine lQ.loadI (cLg 919 rfl) rfl ?_
    refine lQ.i2l (cLg 920 rfl) ?_
    refine lQ.lcmp (cLg 921 rfl) ?_
    refine lQ.ifT (cLg 922 rfl) (decide_eq_true (lg_cmp_rf _)) ?_
    refine lQ.goto (cLg 925 rfl) ?_
    exact lQ.sub (LLs (by rfl) (by rfl) (by rfl) (by rfl) (by rfl)) (k _ _ _ _ _ _ _ _ hn ⟨hI, r', f1, f3⟩ kK kc ks ((k1_580 K1N.rf).2 _ d1).2)
  · refine lQ.ifT (cLg 915 rfl) (decide_eq_true hk) ?_
    refine lQ.goto (cLg 925 rfl) ?_
    exact lQ.sub (LLs (by rfl) (by rfl) (by rfl) (by rfl) (by rfl)) (k _ _ _ _ _ _ _ _ hn ⟨hI, r', f1, f3⟩ kK kc ks ((k1_580 K1N.rf).2 _ d1).2)
theorem lc_rule (hR : lRok R) (hJ : JAll R E) (hn : tOk ad) (hn8 : n ≤ 448) (hi : i + 7 ≤ n) (h : LV E ad b n f h1 o1 o y s A own t K N) (hK : K < 900) (hc : s.2.2.1 < 3800000000) (k : LK R E b n f h1 o1 o i s own t K N 1 6 Z) : lQ R E 1625 cd_L 926 (LL ad b h1 o1 i) [] (cp y s A) Z := by
  obtain ⟨hI, r, f1, f3⟩ := h
  obtain ⟨kk, S, x, t', own', K', N', c1, d1, th, ov, r', kK, kc, ks⟩ := lwa_rule r (f (i + 1)) (f (i + 2))
  refine lQ.loadN (cLg 926 rfl) rfl ?_
  refine lQ.loadN (cLg 927 rfl) rfl ?_
  refine lQ.loadI (cLg 928 rfl) rfl ?_
  refine lQ.push (cLg 929 rfl) ?_
  refine lQ.binI (cLg 930 rfl) ?_
  refine lQ.ald hR (cLg 931 rfl) (hI.scr hn8 1 (by omega)) ?_
  refine lQ.loadN (cLg 932 rfl) rfl ?_
  refine lQ.loadI (cLg 933 rfl) rfl ?_
  refine lQ.push (cLg 934 rfl) ?_
  refine lQ.binI (cLg 935 rfl) ?_
  refine lQ.ald hR (cLg 936 rfl) (hI.scr hn8 2 (by omega)) ?_
  refine lQ.loadN (cLg 937 rfl) rfl ?_
  refine lQ.callG (args := [.ref h1, .int (f (i + 1)), .int (f (i + 2)), .ref o1]) (r := []) hR (cLg 938 rfl) rfl rfl (Nat.le_of_ble_eq_true rfl) (Nat.le_of_ble_eq_true rfl) (cs_330 hR hJ hI.1 (w0 := some h1) (w3 := some o1) f1 f3 c1) ?_ (fun _ _ _ z => by cases z.1)
  rintro _ _ ⟨e_, y, A, hW, hX, rfl⟩
  cases e_
  have f1 := hX.1 _ _ f1
  have f3 := hX.1 _ _ f3
  have hI := hI.ext hW hX
  refine lQ.stI (cLg 939 rfl) (lN2s rfl rfl) ?_
  refine lQ.loadN (cLg 940 rfl) rfl ?_
  refine lQ.loadN (cLg 941 rfl) rfl ?_
  refine lQ.loadI (cLg 942 rfl) rfl ?_
  refine lQ.push (cLg 943 rfl) ?_
  refine lQ.binI (cLg 944 rfl) ?_
  refine lQ.ald hR (cLg 945 rfl) (hI.scr hn8 1 (by omega)) ?_
  refine lQ.loadN (cLg 946 rfl) rfl ?_
  refine lQ.loadI (cLg 947 rfl) rfl ?_
  refine lQ.push (cLg 948 rfl) ?_
  refine lQ.binI (cLg 949 rfl) ?_
  refine lQ.ald hR (cLg 950 rfl) (hI.scr hn8 2 (by omega)) ?_
  rw [hI.sw]
  refine lQ.callVL (F := fun z B => x = z ∧ B = tp ad t' (cp y S A)) (G := fun _ _ => False) (args := [.ref (adr ad 0), .int (f (i + 1)), .int (f (i + 2))]) (r := []) hR (cLg 951 rfl) rfl rfl (Nat.le_of_ble_eq_true rfl) (Nat.le_of_ble_eq_true rfl) rfl (tk_0 hn rfl) (ts_582 hR hn d1 (cL_mk ⟨rfl, rfl⟩)) ?_ (fun _ _ _ z => z.elim)
  rintro _ _ ⟨rfl, rfl⟩
  refine lQ.stL (cLg 952 rfl) (lN2s rfl rfl) rfl ?_
  refine lQ.loadN (cLg 953 rfl) rfl ?_
  refine lQ.callVI (F := fun z B => t'.1 0 = z ∧ B = tp ad t' (cp y S A)) (G := fun _ _ => False) (args := [.ref (adr ad 0)]) (r := []) hR (cLg 954 rfl) rfl rfl (Nat.le_of_ble_eq_true rfl) (Nat.le_of_ble_eq_true rfl) rfl (tk_0 hn rfl) (ts_556 hR hn (x := t'.1 0) rfl (cI_mk ⟨rfl, rfl⟩)) ?_ (fun _ _ _ z => z.elim)
  rintro _ _ ⟨rfl, rfl⟩
  rw [hI.mv SDa.rf t']
  have hI := hI.tw SDa.rf t'
  refine lQ.loadI (cLg 955 rfl) rfl ?_
  refine lQ.cmpT (cLg 956 rfl) (decide_eq_true th) ?_
  refine lQ.loadI (cLg 959 rfl) rfl ?_
  by_cases hk : kk = 0
  · refine lQ.ifF (cLg 960 rfl) (decide_eq_false (fun z => z hk)) ?_
    have hv := ov _ hk rfl
    have g3 := LV_out hI.1 f3 hv
    refine lQ.loadN (cLg 961 rfl) rfl ?_
    refine lQ.push (cLg 962 rfl) ?_
    refine lQ.ald hR (cLg 963 rfl) g3 ?_
    refine lQ.loadL (cLg 964 rfl) rfl ?_
    refine lQ.lcmp (cLg 965 rfl) ?_
    refine lQ.ifT (cLg 966 rfl) (decide_eq_true (lg_cmp_rf _)) ?_
    refine lQ.goto (cLg 969 rfl) ?_
    exact lQ.sub (LLs (by rfl) (by rfl) (by rfl) (by rfl) (by rfl)) (k _ _ _ _ _ _ _ _ hn ⟨hI, r', f1, f3⟩ kK kc ks ((k1_582 K1N.rf).2 _ d1).2)
  · refine lQ.ifT (cLg 960 rfl) (decide_eq_true hk) ?_
    refine lQ.goto (cLg 969 rfl) ?_
    exact lQ.sub (LLs (by rfl) (by rfl) (by rfl) (by rfl) (by rfl)) (k _ _ _ _ _ _ _ _ hn ⟨hI, r', f1, f3⟩ kK kc ks ((k1_582 K1N.rf).2 _ d1).2)
theorem lc_build0 (hR : lRok R) (hJ : JAll R E) (hn : tOk ad) (hn8 : n ≤ 448) (hi : i + 7 ≤ n) (h : LV E ad b n f h1 o1 o y s A own t K N) {cn cm : Nat} {P : TS → Prop} (H : LwR own s t K N o cn cm (c_331 100 (f (i + 1)) o s) (t_583 (f (i + 1)) t) (fun x => some x.toInt64)) (hP : ∀ x T, t_583 (f (i + 1)) t = some (x, T) → P T) (k : LKP R E b n f h1 o1 o i s t K N cn cm P Z) : lQ R E 1625 cd_L 970 (LL ad b h1 o1 i) [] (cp y s A) Z := by
  obtain ⟨hI, r, f1, f3⟩ := h
  obtain ⟨kk, S, x, t', own', K', N', c1, d1, th, ov, r', kK, kc, ks⟩ := H
  refine lQ.loadN (cLg 970 rfl) rfl ?_
  refine lQ.loadN (cLg 971 rfl) rfl ?_
  refine lQ.loadI (cLg 972 rfl) rfl ?_
  refine lQ.push (cLg 973 rfl) ?_
  refine lQ.binI (cLg 974 rfl) ?_
  refine lQ.ald hR (cLg 975 rfl) (hI.scr hn8 1 (by omega)) ?_
  refine lQ.loadN (cLg 976 rfl) rfl ?_
  refine lQ.callG (args := [.ref h1, .int (f (i + 1)), .ref o1]) (r := []) hR (cLg 977 rfl) rfl rfl (Nat.le_of_ble_eq_true rfl) (Nat.le_of_ble_eq_true rfl) (cs_331 hR hJ hI.1 (w0 := some h1) (w2 := some o1) f1 f3 c1) ?_ (fun _ _ _ z => by cases z.1)
  rintro _ _ ⟨e_, y, A, hW, hX, rfl⟩
  cases e_
  have f1 := hX.1 _ _ f1
  have f3 := hX.1 _ _ f3
  have hI := hI.ext hW hX
  refine lQ.stI (cLg 978 rfl) (lN2s rfl rfl) ?_
  refine lQ.loadN (cLg 979 rfl) rfl ?_
  refine lQ.loadN (cLg 980 rfl) rfl ?_
  refine lQ.loadI (cLg 981 rfl) rfl ?_
  refine lQ.push (cLg 982 rfl) ?_
  refine lQ.binI (cLg 983 rfl) ?_
  refine lQ.ald hR (cLg 984 rfl) (hI.scr hn8 1 (by omega)) ?_
  rw [hI.sw]
  refine lQ.callVI (F := fun z B => x = z ∧ B = tp ad t' (cp y S A)) (G := fun _ _ => False) (args := [.ref (adr ad 0), .int (f (i + 1))]) (r := []) hR (cLg 985 rfl) rfl rfl (Nat.le_of_ble_eq_true rfl) (Nat.le_of_ble_eq_true rfl) rfl (tk_0 hn rfl) (ts_583 hR hn d1 (cI_mk ⟨rfl, rfl⟩)) ?_ (fun _ _ _ z => z.elim)
  rintro _ _ ⟨rfl, rfl⟩
  refine lQ.stI (cLg 986 rfl) (lN2s rfl rfl) ?_
  refine lQ.loadN (cLg 987 rfl) rfl ?_
  refine lQ.callVI (F := fun z B => t'.1 0 = z ∧ B = tp ad t' (cp y S A)) (G := fun _ _ => False) (args := [.ref (adr ad 0)]) (r := []) hR (cLg 988 rfl) rfl rfl (Nat.le_of_ble_eq_true rfl) (Nat.le_of_ble_eq_true rfl) rfl (tk_0 hn rfl) (ts_556 hR hn (x := t'.1 0) rfl (cI_mk ⟨rfl, rfl⟩)) ?_ (fun _ _ _ z => z.elim)
  rintro _ _ ⟨rfl, rfl⟩
  rw [hI.mv SDa.rf t']
  have hI := hI.tw SDa.rf t'
  refine lQ.loadI (cLg 989 rfl) rfl ?_
  refine lQ.cmpT (cLg 990 rfl) (decide_eq_true th) ?_
  refine lQ.loadI (cLg 993 rfl) rfl ?_
  by_cases hk : kk = 0
  · refine lQ.ifF (cLg 994 rfl) (decide_eq_false (fun z => z hk)) ?_
    have hv := ov _ hk rfl
    have g3 := LV_out hI.1 f3 hv
    refine lQ.loadN (cLg 995 rfl) rfl ?_
    refine lQ.push (cLg 996 rfl) ?_
    refine lQ.ald hR (cLg 997 rfl) g3 ?_
    refine lQ.loadI (cLg 998 rfl) rfl ?_
    refine lQ.i2l (cLg 999 rfl) ?_
    refine lQ.lcmp (cLg 1000 rfl) ?_
    refine lQ.ifT (cLg 1001 rfl) (decide_eq_true (lg_cmp_rf _)) ?_
    refine lQ.goto (cLg 1004 rfl) ?_
    exact lQ.sub (LLs (by rfl) (by rfl) (by rfl) (by rfl) (by rfl)) (k _ _ _ _ _ _ _ _ hn ⟨hI, r', f1, f3⟩ kK kc ks (hP _ _ d1))
  · refine lQ.ifT (cLg 994 rfl) (decide_eq_true hk) ?_
    refine lQ.goto (cLg 1004 rfl) ?_
    exact lQ.sub (LLs (by rfl) (by rfl) (by rfl) (by rfl) (by rfl)) (k _ _ _ _ _ _ _ _ hn ⟨hI, r', f1, f3⟩ kK kc ks (hP _ _ d1))
theorem lc_build (hR : lRok R) (hJ : JAll R E) (hn : tOk ad) (hn8 : n ≤ 448) (hi : i + 7 ≤ n) (h : LV E ad b n f h1 o1 o y s A own t K N) (k : LKP R E b n f h1 o1 o i s t K N 2000 6000 (fun t' => t'.1 1 = t.1 1 ∨ t'.1 1 = 1) Z) (k2 : t.1 1 = 0 → LKP R E b n f h1 o1 o i s t K N 32110 596520 (fun t' => t'.1 1 = 1) Z) : lQ R E 1625 cd_L 970 (LL ad b h1 o1 i) [] (cp y s A) Z := by
  rcases lwa_bld2 h.2.1 (f (i + 1)) with H | ⟨H, e0, e1⟩
  · exact lc_build0 (P := fun t' => t'.1 1 = t.1 1 ∨ t'.1 1 = 1) hR hJ hn hn8 hi h H (fun _ _ e => bld_or.2 _ e) k
  · exact lc_build0 (P := fun t' => t'.1 1 = 1) hR hJ hn hn8 hi h H e1 (k2 e0)
theorem lc_portal (hR : lRok R) (hJ : JAll R E) (hn : tOk ad) (hn8 : n ≤ 448) (hi : i + 7 ≤ n) (h : LV E ad b n f h1 o1 o y s A own t K N) (hK : K < 900) (hc : s.2.2.1 < 3800000000) (k : LK R E b n f h1 o1 o i s own t K N 1 6 Z) : lQ R E 1625 cd_L 1005 (LL ad b h1 o1 i) [] (cp y s A) Z := by
  obtain ⟨hI, r, f1, f3⟩ := h
  obtain ⟨kk, S, x, t', own', K', N', c1, d1, th, ov, r', kK, kc, ks⟩ := lwa_portal r (f (i + 1)) (f (i + 2))
  refine lQ.loadN (cLg 1005 rfl) rfl ?_
  refine lQ.loadN (cLg 1006 rfl) rfl ?_
  refine lQ.loadI (cLg 1007 rfl) rfl ?_
  refine lQ.push (cLg 1008 rfl) ?_
  refine lQ.binI (cLg 1009 rfl) ?_
  refine lQ.ald hR (cLg 1010 rfl) (hI.scr hn8 1 (by omega)) ?_
  refine lQ.loadN (cLg 1011 rfl) rfl ?_
  refine lQ.loadI (cLg 1012 rfl) rfl ?_
  refine lQ.push (cLg 1013 rfl) ?_
  refine lQ.binI (cLg 1014 rfl) ?_
  refine lQ.ald hR (cLg 1015 rfl) (hI.scr hn8 2 (by omega)) ?_
  refine lQ.loadN (cLg 1016 rfl) rfl ?_
  refine lQ.callG (args := [.ref h1, .int (f (i + 1)), .int (f (i + 2)), .ref o1]) (r := []) hR (cLg 1017 rfl) rfl rfl (Nat.le_of_ble_eq_true rfl) (Nat.le_of_ble_eq_true rfl) (cs_332 hR hJ hI.1 (w0 := some h1) (w3 := some o1) f1 f3 c1) ?_ (fun _ _ _ z => by cases z.1)
  rintro _ _ ⟨e_, y, A, hW, hX, rfl⟩
  cases e_
  have f1 := hX.1 _ _ f1
  have f3 := hX.1 _ _ f3
  have hI := hI.ext hW hX
  refine lQ.stI (cLg 1018 rfl) (lN2s rfl rfl) ?_
  refine lQ.loadN (cLg 1019 rfl) rfl ?_
  refine lQ.loadN (cLg 1020 rfl) rfl ?_
  refine lQ.loadI (cLg 1021 rfl) rfl ?_
  refine lQ.push (cLg 1022 rfl) ?_
  refine lQ.binI (cLg 1023 rfl) ?_
  refine lQ.ald hR (cLg 1024 rfl) (hI.scr hn8 1 (by omega)) ?_
  refine lQ.loadN (cLg 1025 rfl) rfl ?_
  refine lQ.loadI (cLg 1026 rfl) rfl ?_
  refine lQ.push (cLg 1027 rfl) ?_
  refine lQ.binI (cLg 1028 rfl) ?_
  refine lQ.ald hR (cLg 1029 rfl) (hI.scr hn8 2 (by omega)) ?_
  rw [hI.sw]
  refine lQ.callVI (F := fun z B => x = z ∧ B = tp ad t' (cp y S A)) (G := fun _ _ => False) (args := [.ref (adr ad 0), .int (f (i + 1)), .int (f (i + 2))]) (r := []) hR (cLg 1030 rfl) rfl rfl (Nat.le_of_ble_eq_true rfl) (Nat.le_of_ble_eq_true rfl) rfl (tk_0 hn rfl) (ts_592 hR hn d1 (cI_mk ⟨rfl, rfl⟩)) ?_ (fun _ _ _ z => z.elim)
  rintro _ _ ⟨rfl, rfl⟩
  refine lQ.stI (cLg 1031 rfl) (lN2s rfl rfl) ?_
  refine lQ.loadN (cLg 1032 rfl) rfl ?_
  refine lQ.callVI (F := fun z B => t'.1 0 = z ∧ B = tp ad t' (cp y S A)) (G := fun _ _ => False) (args := [.ref (adr ad 0)]) (r := []) hR (cLg 1033 rfl) rfl rfl (Nat.le_of_ble_eq_true rfl) (Nat.le_of_ble_eq_true rfl) rfl (tk_0 hn rfl) (ts_556 hR hn (x := t'.1 0) rfl (cI_mk ⟨rfl, rfl⟩)) ?_ (fun _ _ _ z => z.elim)
  rintro _ _ ⟨rfl, rfl⟩
  rw [hI.mv SDa.rf t']
  have hI := hI.tw SDa.rf t'
  refine lQ.loadI (cLg 1034 rfl) rfl ?_
  refine lQ.cmpT (cLg 1035 rfl) (decide_eq_true th) ?_
  refine lQ.loadI (cLg 1038 rfl) rfl ?_
  by_cases hk : kk = 0
  · refine lQ.ifF (cLg 1039 rfl) (decide_eq_false (fun z => z hk)) ?_
    have hv := ov _ hk rfl
    have g3 := LV_out hI.1 f3 hv
    refine lQ.loadN (cLg 1040 rfl) rfl ?_
    refine lQ.push (cLg 1041 rfl) ?_
    refine lQ.ald hR (cLg 1042 rfl) g3 ?_
    refine lQ.loadI (cLg 1043 rfl) rfl ?_
    refine lQ.i2l (cLg 1044 rfl) ?_
    refine lQ.lcmp (cLg 1045 rfl) ?_
    refine lQ.ifT (cLg 1046 rfl) (decide_eq_true (lg_cmp_rf _)) ?_
    refine lQ.goto (cLg 1049 rfl) ?_
    exact lQ.sub (LLs (by rfl) (by rfl) (by rfl) (by rfl) (by rfl)) (k _ _ _ _ _ _ _ _ hn ⟨hI, r', f1, f3⟩ kK kc ks ((k1_592 K1N.rf).2 _ d1).2)
  · refine lQ.ifT (cLg 1039 rfl) (decide_eq_true hk) ?_
    refine lQ.goto (cLg 1049 rfl) ?_
    exact lQ.sub (LLs (by rfl) (by rfl) (by rfl) (by rfl) (by rfl)) (k _ _ _ _ _ _ _ _ hn ⟨hI, r', f1, f3⟩ kK kc ks ((k1_592 K1N.rf).2 _ d1).2)
theorem lc_person (hR : lRok R) (hJ : JAll R E) (hn : tOk ad) (hn8 : n ≤ 448) (hi : i + 7 ≤ n) (h : LV E ad b n f h1 o1 o y s A own t K N) (hK : K < 900) (hc : s.2.2.1 < 3800000000) (k : LK R E b n f h1 o1 o i s own t K N 3 31 Z) : lQ R E 1625 cd_L 1050 (LL ad b h1 o1 i) [] (cp y s A) Z := by
  obtain ⟨hI, r, f1, f3⟩ := h
  obtain ⟨kk, S, x, t', own', K', N', c1, d1, th, ov, r', kK, kc, ks⟩ := lwa_person r (f (i + 1)) (f (i + 2))
  refine lQ.loadN (cLg 1050 rfl) rfl ?_
  refine lQ.loadN (cLg 1051 rfl) rfl ?_
  refine lQ.loadI (cLg 1052 rfl) rfl ?_
  refine lQ.push (cLg 1053 rfl) ?_
  refine lQ.binI (cLg 1054 rfl) ?_
  refine lQ.ald hR (cLg 1055 rfl) (hI.scr hn8 1 (by omega)) ?_
  refine lQ.loadN (cLg 1056 rfl) rfl ?_
  refine lQ.loadI (cLg 1057 rfl) rfl ?_
  refine lQ.push (cLg 1058 rfl) ?_
  refine lQ.binI (cLg 1059 rfl) ?_
  refine lQ.ald hR (cLg 1060 rfl) (hI.scr hn8 2 (by omega)) ?_
  refine lQ.loadN (cLg 1061 rfl) rfl ?_
  refine lQ.callG (args := [.ref h1, .int (f (i + 1)), .int (f (i + 2)), .ref o1]) (r := []) hR (cLg 1062 rfl) rfl rfl (Nat.le_of_ble_eq_true rfl) (Nat.le_of_ble_eq_true rfl) (cs_333 hR hJ hI.1 (w0 := some h1) (w3 := some o1) f1 f3 c1) ?_ (fun _ _ _ z => by cases z.1)
  rintro _ _ ⟨e_, y, A, hW, hX, rfl⟩
  cases e_
  have f1 := hX.1 _ _ f1
  have f3 := hX.1 _ _ f3
  have hI := hI.ext hW hX
  refine lQ.stI (cLg 1063 rfl) (lN2s rfl rfl) ?_
  refine lQ.loadN (cLg 1064 rfl) rfl ?_
  refine lQ.loadN (cLg 1065 rfl) rfl ?_
  refine lQ.loadI (cLg 1066 rfl) rfl ?_
  refine lQ.push (cLg 1067 rfl) ?_
  refine lQ.binI (cLg 1068 rfl) ?_
  refine lQ.ald hR (cLg 1069 rfl) (hI.scr hn8 1 (by omega)) ?_
  refine lQ.loadN (cLg 1070 rfl) rfl ?_
  refine lQ.loadI (cLg 1071 rfl) rfl ?_
  refine lQ.push (cLg 1072 rfl) ?_
  refine lQ.binI (cLg 1073 rfl) ?_
  refine lQ.ald hR (cLg 1074 rfl) (hI.scr hn8 2 (by omega)) ?_
  rw [hI.sw]
  refine lQ.callVI (F := fun z B => x = z ∧ B = tp ad t' (cp y S A)) (G := fun _ _ => False) (args := [.ref (adr ad 0), .int (f (i + 1)), .int (f (i + 2))]) (r := []) hR (cLg 1075 rfl) rfl rfl (Nat.le_of_ble_eq_true rfl) (Nat.le_of_ble_eq_true rfl) rfl (tk_0 hn rfl) (ts_593 hR hn d1 (cI_mk ⟨rfl, rfl⟩)) ?_ (fun _ _ _ z => z.elim)
  rintro _ _ ⟨rfl, rfl⟩
  refine lQ.stI (cLg 1076 rfl) (lN2s rfl rfl) ?_
  refine lQ.loadN (cLg 1077 rfl) rfl ?_
  refine lQ.callVI (F := fun z B => t'.1 0 = z ∧ B = tp ad t' (cp y S A)) (G := fun _ _ => False) (args := [.ref (adr ad 0)]) (r := []) hR (cLg 1078 rfl) rfl rfl (Nat.le_of_ble_eq_true rfl) (Nat.le_of_ble_eq_true rfl) rfl (tk_0 hn rfl) (ts_556 hR hn (x := t'.1 0) rfl (cI_mk ⟨rfl, rfl⟩)) ?_ (fun _ _ _ z => z.elim)
  rintro _ _ ⟨rfl, rfl⟩
  rw [hI.mv SDa.rf t']
  have hI := hI.tw SDa.rf t'
  refine lQ.loadI (cLg 1079 rfl) rfl ?_
  refine lQ.cmpT (cLg 1080 rfl) (decide_eq_true th) ?_
  refine lQ.loadI (cLg 1083 rfl) rfl ?_
  by_cases hk : kk = 0
  · refine lQ.ifF (cLg 1084 rfl) (decide_eq_false (fun z => z hk)) ?_
    have hv := ov _ hk rfl
    have g3 := LV_out hI.1 f3 hv
    refine lQ.loadN (cLg 1085 rfl) rfl ?_
    refine lQ.push (cLg 1086 rfl) ?_
    refine lQ.ald hR (cLg 1087 rfl) g3 ?_
    refine lQ.loadI (cLg 1088 rfl) rfl ?_
    refine lQ.i2l (cLg 1089 rfl) ?_
    refine lQ.lcmp (cLg 1090 rfl) ?_
    refine lQ.ifT (cLg 1091 rfl) (decide_eq_true (lg_cmp_rf _)) ?_
    refine lQ.goto (cLg 1094 rfl) ?_
    exact lQ.sub (LLs (by rfl) (by rfl) (by rfl) (by rfl) (by rfl)) (k _ _ _ _ _ _ _ _ hn ⟨hI, r', f1, f3⟩ kK kc ks ((k1_593 K1N.rf).2 _ d1).2)
  · refine lQ.ifT (cLg 1084 rfl) (decide_eq_true hk) ?_
    refine lQ.goto (cLg 1094 rfl) ?_
    exact lQ.sub (LLs (by rfl) (by rfl) (by rfl) (by rfl) (by rfl)) (k _ _ _ _ _ _ _ _ hn ⟨hI, r', f1, f3⟩ kK kc ks ((k1_593 K1N.rf).2 _ d1).2)
theorem lc_card (hR : lRok R) (hJ : JAll R E) (hn : tOk ad) (hn8 : n ≤ 448) (hi : i + 7 ≤ n) (h : LV E ad b n f h1 o1 o y s A own t K N) (hK : K < 900) (hc : s.2.2.1 < 3800000000) (k : LK R E b n f h1 o1 o i s own t K N 5 37 Z) : lQ R E 1625 cd_L 1095 (LL ad b h1 o1 i) [] (cp y s A) Z := by
  obtain ⟨hI, r, f1, f3⟩ := h
  obtain ⟨kk, S, x, t', own', K', N', c1, d1, th, ov, r', kK, kc, ks⟩ := lwa_card r (f (i + 1)) (f (i + 2)) (by omega)
  refine lQ.loadN (cLg 1095 rfl) rfl ?_
  refine lQ.loadN (cLg 1096 rfl) rfl ?_
  refine lQ.loadI (cLg 1097 rfl) rfl ?_
  refine lQ.push (cLg 1098 rfl) ?_
  refine lQ.binI (cLg 1099 rfl) ?_
  refine lQ.ald hR (cLg 1100 rfl) (hI.scr hn8 1 (by omega)) ?_
  refine lQ.loadN (cLg 1101 rfl) rfl ?_
  refine lQ.loadI (cLg 1102 rfl) rfl ?_
  refine lQ.push (cLg 1103 rfl) ?_
  refine lQ.binI (cLg 1104 rfl) ?_
  refine lQ.ald hR (cLg 1105 rfl) (hI.scr hn8 2 (by omega)) ?_
  refine lQ.loadN (cLg 1106 rfl) rfl ?_
  refine lQ.callG (args := [.ref h1, .int (f (i + 1)), .int (f (i + 2)), .ref o1]) (r := []) hR (cLg 1107 rfl) rfl rfl (Nat.le_of_ble_eq_true rfl) (Nat.le_of_ble_eq_true rfl) (cs_334 hR hJ hI.1 (w0 := some h1) (w3 := some o1) f1 f3 c1) ?_ (fun _ _ _ z => by cases z.1)
  rintro _ _ ⟨e_, y, A, hW, hX, rfl⟩
  cases e_
  have f1 := hX.1 _ _ f1
  have f3 := hX.1 _ _ f3
  have hI := hI.ext hW hX
  refine lQ.stI (cLg 1108 rfl) (lN2s rfl rfl) ?_
  refine lQ.loadN (cLg 1109 rfl) rfl ?_
  refine lQ.loadN (cLg 1110 rfl) rfl ?_
  refine lQ.loadI (cLg 1111 rfl) rfl ?_
  refine lQ.push (cLg 1112 rfl) ?_
  refine lQ.binI (cLg 1113 rfl) ?_
  refine lQ.ald hR (cLg 1114 rfl) (hI.scr hn8 1 (by omega)) ?_
  refine lQ.loadN (cLg 1115 rfl) rfl ?_
  refine lQ.loadI (cLg 1116 rfl) rfl ?_
  refine lQ.push (cLg 1117 rfl) ?_
  refine lQ.binI (cLg 1118 rfl) ?_
  refine lQ.ald hR (cLg 1119 rfl) (hI.scr hn8 2 (by omega)) ?_
  rw [hI.sw]
  refine lQ.callVI (F := fun z B => x = z ∧ B = tp ad t' (cp y S A)) (G := fun _ _ => False) (args := [.ref (adr ad 0), .int (f (i + 1)), .int (f (i + 2))]) (r := []) hR (cLg 1120 rfl) rfl rfl (Nat.le_of_ble_eq_true rfl) (Nat.le_of_ble_eq_true rfl) rfl (tk_0 hn rfl) (ts_594 hR hn d1 (cI_mk ⟨rfl, rfl⟩)) ?_ (fun _ _ _ z => z.elim)
  rintro _ _ ⟨rfl, rfl⟩
  refine lQ.stI (cLg 1121 rfl) (lN2s rfl rfl) ?_
  refine lQ.loadN (cLg 1122 rfl) rfl ?_
  refine lQ.callVI (F := fun z B => t'.1 0 = z ∧ B = tp ad t' (cp y S A)) (G := fun _ _ => False) (args := [.ref (adr ad 0)]) (r := []) hR (cLg 1123 rfl) rfl rfl (Nat.le_of_ble_eq_true rfl) (Nat.le_of_ble_eq_true rfl) rfl (tk_0 hn rfl) (ts_556 hR hn (x := t'.1 0) rfl (cI_mk ⟨rfl, rfl⟩)) ?_ (fun _ _ _ z => z.elim)
  rintro _ _ ⟨rfl, rfl⟩
  rw [hI.mv SDa.rf t']
  have hI := hI.tw SDa.rf t'
  refine lQ.loadI (cLg 1124 rfl) rfl ?_
  refine lQ.cmpT (cLg 1125 rfl) (decide_eq_true th) ?_
  refine lQ.loadI (cLg 1128 rfl) rfl ?_
  by_cases hk : kk = 0
  · refine lQ.ifF (cLg 1129 rfl) (decide_eq_false (fun z => z hk)) ?_
    have hv := ov _ hk rfl
    have g3 := LV_out hI.1 f3 hv
    refine lQ.loadN (cLg 1130 rfl) rfl ?_
    refine lQ.push (cLg 1131 rfl) ?_
    refine lQ.ald hR (cLg 1132 rfl) g3 ?_
    refine lQ.loadI (cLg 1133 rfl) rfl ?_
    refine lQ.i2l (cLg 1134 rfl) ?_
    refine lQ.lcmp (cLg 1135 rfl) ?_
    refine lQ.ifT (cLg 1136 rfl) (decide_eq_true (lg_cmp_rf _)) ?_
    refine lQ.goto (cLg 1139 rfl) ?_
    exact lQ.sub (LLs (by rfl) (by rfl) (by rfl) (by rfl) (by rfl)) (k _ _ _ _ _ _ _ _ hn ⟨hI, r', f1, f3⟩ kK kc ks ((k1_594 K1N.rf).2 _ d1).2)
  · refine lQ.ifT (cLg 1129 rfl) (decide_eq_true hk) ?_
    refine lQ.goto (cLg 1139 rfl) ?_
    exact lQ.sub (LLs (by rfl) (by rfl) (by rfl) (by rfl) (by rfl)) (k _ _ _ _ _ _ _ _ hn ⟨hI, r', f1, f3⟩ kK kc ks ((k1_594 K1N.rf).2 _ d1).2)
theorem lc_right (hR : lRok R) (hJ : JAll R E) (hn : tOk ad) (hn8 : n ≤ 448) (hi : i + 7 ≤ n) (h : LV E ad b n f h1 o1 o y s A own t K N) (hK : K < 900) (hc : s.2.2.1 < 3800000000) (k : LK R E b n f h1 o1 o i s own t K N 5 39 Z) : lQ R E 1625 cd_L 1140 (LL ad b h1 o1 i) [] (cp y s A) Z := by
  obtain ⟨hI, r, f1, f3⟩ := h
  obtain ⟨kk, S, x, t', own', K', N', c1, d1, th, ov, r', kK, kc, ks⟩ := lwa_right r (f (i + 1)) (f (i + 2)) (f (i + 3)) (f (i + 4)) (f (i + 5)) (by omega)
  refine lQ.loadN (cLg 1140 rfl) rfl ?_
  refine lQ.loadN (cLg 1141 rfl) rfl ?_
  refine lQ.loadI (cLg 1142 rfl) rfl ?_
  refine lQ.push (cLg 1143 rfl) ?_
  refine lQ.binI (cLg 1144 rfl) ?_
  refine lQ.ald hR (cLg 1145 rfl) (hI.scr hn8 1 (by omega)) ?_
  refine lQ.loadN (cLg 1146 rfl) rfl ?_
  refine lQ.loadI (cLg 1147 rfl) rfl ?_
  refine lQ.push (cLg 1148 rfl) ?_
  refine lQ.binI (cLg 1149 rfl) ?_
  refine lQ.ald hR (cLg 1150 rfl) (hI.scr hn8 2 (by omega)) ?_
  refine lQ.loadN (cLg 1151 rfl) rfl ?_
  refine lQ.loadI (cLg 1152 rfl) rfl ?_
  refine lQ.push (cLg 1153 rfl) ?_
  refine lQ.binI (cLg 1154 rfl) ?_
  refine lQ.ald hR (cLg 1155 rfl) (hI.scr hn8 3 (by omega)) ?_
  refine lQ.loadN (cLg 1156 rfl) rfl ?_
  refine lQ.loadI (cLg 1157 rfl) rfl ?_
  refine lQ.push (cLg 1158 rfl) ?_
  refine lQ.binI (cLg 1159 rfl) ?_
  refine lQ.ald hR (cLg 1160 rfl) (hI.scr hn8 4 (by omega)) ?_
  refine lQ.loadN (cLg 1161 rfl) rfl ?_
  refine lQ.loadI (cLg 1162 rfl) rfl ?_
  refine lQ.push (cLg 1163 rfl) ?_
  refine lQ.binI (cLg 1164 rfl) ?_
  refine lQ.ald hR (cLg 1165 rfl) (hI.scr hn8 5 (by omega)) ?_
  refine lQ.loadN (cLg 1166 rfl) rfl ?_
  refine lQ.callG (args := [.ref h1, .int (f (i + 1)), .int (f (i + 2)), .int (f (i + 3)), .int (f (i + 4)), .int (f (i + 5)), .ref o1]) (r := []) hR (cLg 1167 rfl) rfl rfl (Nat.le_of_ble_eq_true rfl) (Nat.le_of_ble_eq_true rfl) (cs_335 hR hJ hI.1 (w0 := some h1) (w6 := some o1) f1 f3 c1) ?_ (fun _ _ _ z => by cases z.1)
  rintro _ _ ⟨e_, y, A, hW, hX, rfl⟩
  cases e_
  have f1 := hX.1 _ _ f1
  have f3 := hX.1 _ _ f3
  have hI := hI.ext hW hX
  refine lQ.stI (cLg 1168 rfl) (lN2s rfl rfl) ?_
  refine lQ.loadN (cLg 1169 rfl) rfl ?_
  refine lQ.loadN (cLg 1170 rfl) rfl ?_
  refine lQ.loadI (cLg 1171 rfl) rfl ?_
  refine lQ.push (cLg 1172 rfl) ?_
  refine lQ.binI (cLg 1173 rfl) ?_
  refine lQ.ald hR (cLg 1174 rfl) (hI.scr hn8 1 (by omega)) ?_
  refine lQ.loadN (cLg 1175 rfl) rfl ?_
  refine lQ.loadI (cLg 1176 rfl) rfl ?_
  refine lQ.push (cLg 1177 rfl) ?_
  refine lQ.binI (cLg 1178 rfl) ?_
  refine lQ.ald hR (cLg 1179 rfl) (hI.scr hn8 2 (by omega)) ?_
  refine lQ.loadN (cLg 1180 rfl) rfl ?_
  refine lQ.loadI (cLg 1181 rfl) rfl ?_
  refine lQ.push (cLg 1182 rfl) ?_
  refine lQ.binI (cLg 1183 rfl) ?_
  refine lQ.ald hR (cLg 1184 rfl) (hI.scr hn8 3 (by omega)) ?_
  refine lQ.loadN (cLg 1185 rfl) rfl ?_
  refine lQ.loadI (cLg 1186 rfl) rfl ?_
  refine lQ.push (cLg 1187 rfl) ?_
  refine lQ.binI (cLg 1188 rfl) ?_
  refine lQ.ald hR (cLg 1189 rfl) (hI.scr hn8 4 (by omega)) ?_
  refine lQ.loadN (cLg 1190 rfl) rfl ?_
  refine lQ.loadI (cLg 1191 rfl) rfl ?_
  refine lQ.push (cLg 1192 rfl) ?_
  refine lQ.binI (cLg 1193 rfl) ?_
  refine lQ.ald hR (cLg 1194 rfl) (hI.scr hn8 5 (by omega)) ?_
  rw [hI.sw]
  refine lQ.callVI (F := fun z B => x = z ∧ B = tp ad t' (cp y S A)) (G := fun _ _ => False) (args := [.ref (adr ad 0), .int (f (i + 1)), .int (f (i + 2)), .int (f (i + 3)), .int (f (i + 4)), .int (f (i + 5))]) (r := []) hR (cLg 1195 rfl) rfl rfl (Nat.le_of_ble_eq_true rfl) (Nat.le_of_ble_eq_true rfl) rfl (tk_0 hn rfl) (ts_597 hR hn d1 (cI_mk ⟨rfl, rfl⟩)) ?_ (fun _ _ _ z => z.elim)
  rintro _ _ ⟨rfl, rfl⟩
  refine lQ.stI (cLg 1196 rfl) (lN2s rfl rfl) ?_
  refine lQ.loadN (cLg 1197 rfl) rfl ?_
  refine lQ.callVI (F := fun z B => t'.1 0 = z ∧ B = tp ad t' (cp y S A)) (G := fun _ _ => False) (args := [.ref (adr ad 0)]) (r := []) hR (cLg 1198 rfl) rfl rfl (Nat.le_of_ble_eq_true rfl) (Nat.le_of_ble_eq_true rfl) rfl (tk_0 hn rfl) (ts_556 hR hn (x := t'.1 0) rfl (cI_mk ⟨rfl, rfl⟩)) ?_ (fun _ _ _ z => z.elim)
  rintro _ _ ⟨rfl, rfl⟩
  rw [hI.mv SDa.rf t']
  have hI := hI.tw SDa.rf t'
  refine lQ.loadI (cLg 1199 rfl) rfl ?_
  refine lQ.cmpT (cLg 1200 rfl) (decide_eq_true th) ?_
  refine lQ.loadI (cLg 1203 rfl) rfl ?_
  by_cases hk : kk = 0
  · refine lQ.ifF (cLg 1204 rfl) (decide_eq_false (fun z => z hk)) ?_
    have hv := ov _ hk rfl
    have g3 := LV_out hI.1 f3 hv
    refine lQ.loadN (cLg 1205 rfl) rfl ?_
    refine lQ.push (cLg 1206 rfl) ?_
    refine lQ.ald hR (cLg 1207 rfl) g3 ?_
    refine lQ.loadI (cLg 1208 rfl) rfl ?_
    refine lQ.i2l (cLg 1209 rfl) ?_
    refine lQ.lcmp (cLg 1210 rfl) ?_
    refine lQ.ifT (cLg 1211 rfl) (decide_eq_true (lg_cmp_rf _)) ?_
    refine lQ.goto (cLg 1214 rfl) ?_
    exact lQ.sub (LLs (by rfl) (by rfl) (by rfl) (by rfl) (by rfl)) (k _ _ _ _ _ _ _ _ hn ⟨hI, r', f1, f3⟩ kK kc ks ((k1_597 K1N.rf).2 _ d1).2)
  · refine lQ.ifT (cLg 1204 rfl) (decide_eq_true hk) ?_
    refine lQ.goto (cLg 1214 rfl) ?_
    exact lQ.sub (LLs (by rfl) (by rfl) (by rfl) (by rfl) (by rfl)) (k _ _ _ _ _ _ _ _ hn ⟨hI, r', f1, f3⟩ kK kc ks ((k1_597 K1N.rf).2 _ d1).2)
theorem lc_end (hR : lRok R) (hJ : JAll R E) (hn : tOk ad) (hn8 : n ≤ 448) (hi : i + 7 ≤ n) (h : LV E ad b n f h1 o1 o y s A own t K N) (hK : K < 900) (hc : s.2.2.1 < 3800000000) (k : LK R E b n f h1 o1 o i s own t K N 5 15 Z) : lQ R E 1625 cd_L 1215 (LL ad b h1 o1 i) [] (cp y s A) Z := by
  obtain ⟨hI, r, f1, f3⟩ := h
  obtain ⟨kk, S, x, t', own', K', N', c1, d1, th, ov, r', kK, kc, ks⟩ := lwa_end r (f (i + 1)) (f (i + 2)) (by omega)
  refine lQ.loadN (cLg 1215 rfl) rfl ?_
  refine lQ.loadN (cLg 1216 rfl) rfl ?_
  refine lQ.loadI (cLg 1217 rfl) rfl ?_
  refine lQ.push (cLg 1218 rfl) ?_
  refine lQ.binI (cLg 1219 rfl) ?_
  refine lQ.ald hR (cLg 1220 rfl) (hI.scr hn8 1 (by omega)) ?_
  refine lQ.loadN (cLg 1221 rfl) rfl ?_
  refine lQ.loadI (cLg 1222 rfl) rfl ?_
  refine lQ.push (cLg 1223 rfl) ?_
  refine lQ.binI (cLg 1224 rfl) ?_
  refine lQ.ald hR (cLg 1225 rfl) (hI.scr hn8 2 (by omega)) ?_
  refine lQ.loadN (cLg 1226 rfl) rfl ?_
  refine lQ.callG (args := [.ref h1, .int (f (i + 1)), .int (f (i + 2)), .ref o1]) (r := []) hR (cLg 1227 rfl) rfl rfl (Nat.le_of_ble_eq_true rfl) (Nat.le_of_ble_eq_true rfl) (cs_336 hR hJ hI.1 (w0 := some h1) (w3 := some o1) f1 f3 c1) ?_ (fun _ _ _ z => by cases z.1)
  rintro _ _ ⟨e_, y, A, hW, hX, rfl⟩
  cases e_
  have f1 := hX.1 _ _ f1
  have f3 := hX.1 _ _ f3
  have hI := hI.ext hW hX
  refine lQ.stI (cLg 1228 rfl) (lN2s rfl rfl) ?_
  refine lQ.loadN (cLg 1229 rfl) rfl ?_
  refine lQ.loadN (cLg 1230 rfl) rfl ?_
  refine lQ.loadI (cLg 1231 rfl) rfl ?_
  refine lQ.push (cLg 1232 rfl) ?_
  refine lQ.binI (cLg 1233 rfl) ?_
  refine lQ.ald hR (cLg 1234 rfl) (hI.scr hn8 1 (by omega)) ?_
  refine lQ.loadN (cLg 1235 rfl) rfl ?_
  refine lQ.loadI (cLg 1236 rfl) rfl ?_
  refine lQ.push (cLg 1237 rfl) ?_
  refine lQ.binI (cLg 1238 rfl) ?_
  refine lQ.ald hR (cLg 1239 rfl) (hI.scr hn8 2 (by omega)) ?_
  rw [hI.sw]
  refine lQ.callVI (F := fun z B => x = z ∧ B = tp ad t' (cp y S A)) (G := fun _ _ => False) (args := [.ref (adr ad 0), .int (f (i + 1)), .int (f (i + 2))]) (r := []) hR (cLg 1240 rfl) rfl rfl (Nat.le_of_ble_eq_true rfl) (Nat.le_of_ble_eq_true rfl) rfl (tk_0 hn rfl) (ts_598 hR hn d1 (cI_mk ⟨rfl, rfl⟩)) ?_ (fun _ _ _ z => z.elim)
  rintro _ _ ⟨rfl, rfl⟩
  refine lQ.stI (cLg 1241 rfl) (lN2s rfl rfl) ?_
  refine lQ.loadN (cLg 1242 rfl) rfl ?_
  refine lQ.callVI (F := fun z B => t'.1 0 = z ∧ B = tp ad t' (cp y S A)) (G := fun _ _ => False) (args := [.ref (adr ad 0)]) (r := []) hR (cLg 1243 rfl) rfl rfl (Nat.le_of_ble_eq_true rfl) (Nat.le_of_ble_eq_true rfl) rfl (tk_0 hn rfl) (ts_556 hR hn (x := t'.1 0) rfl (cI_mk ⟨rfl, rfl⟩)) ?_ (fun _ _ _ z => z.elim)
  rintro _ _ ⟨rfl, rfl⟩
  rw [hI.mv SDa.rf t']
  have hI := hI.tw SDa.rf t'
  refine lQ.loadI (cLg 1244 rfl) rfl ?_
  refine lQ.cmpT (cLg 1245 rfl) (decide_eq_true th) ?_
  refine lQ.loadI (cLg 1248 rfl) rfl ?_
  by_cases hk : kk = 0
  · refine lQ.ifF (cLg 1249 rfl) (decide_eq_false (fun z => z hk)) ?_
    have hv := ov _ hk rfl
    have g3 := LV_out hI.1 f3 hv
    refine lQ.loadN (cLg 1250 rfl) rfl ?_
    refine lQ.push (cLg 1251 rfl) ?_
    refine lQ.ald hR (cLg 1252 rfl) g3 ?_
    refine lQ.loadI (cLg 1253 rfl) rfl ?_
    refine lQ.i2l (cLg 1254 rfl) ?_
    refine lQ.lcmp (cLg 1255 rfl) ?_
    refine lQ.ifT (cLg 1256 rfl) (decide_eq_true (lg_cmp_rf _)) ?_
    refine lQ.goto (cLg 1259 rfl) ?_
    exact lQ.sub (LLs (by rfl) (by rfl) (by rfl) (by rfl) (by rfl)) (k _ _ _ _ _ _ _ _ hn ⟨hI, r', f1, f3⟩ kK kc ks ((k1_598 K1N.rf).2 _ d1).2)
  · refine lQ.ifT (cLg 1249 rfl) (decide_eq_true hk) ?_
    refine lQ.goto (cLg 1259 rfl) ?_
    exact lQ.sub (LLs (by rfl) (by rfl) (by rfl) (by rfl) (by rfl)) (k _ _ _ _ _ _ _ _ hn ⟨hI, r', f1, f3⟩ kK kc ks ((k1_598 K1N.rf).2 _ d1).2)
theorem lc_lost (hR : lRok R) (hJ : JAll R E) (hn : tOk ad) (hn8 : n ≤ 448) (hi : i + 7 ≤ n) (h : LV E ad b n f h1 o1 o y s A own t K N) (hK : K < 900) (hc : s.2.2.1 < 3800000000) (k : LK R E b n f h1 o1 o i s own t K N 5 15 Z) : lQ R E 1625 cd_L 1260 (LL ad b h1 o1 i) [] (cp y s A) Z := by
  obtain ⟨hI, r, f1, f3⟩ := h
  obtain ⟨kk, S, x, t', own', K', N', c1, d1, th, ov, r', kK, kc, ks⟩ := lwa_lost r (f (i + 1)) (f (i + 2)) (by omega)
  refine lQ.loadN (cLg 1260 rfl) rfl ?_
  refine lQ.loadN (cLg 1261 rfl) rfl ?_
  refine lQ.loadI (cLg 1262 rfl) rfl ?_
  refine lQ.push (cLg 1263 rfl) ?_
  refine lQ.binI (cLg 1264 rfl) ?_
  refine lQ.ald hR (cLg 1265 rfl) (hI.scr hn8 1 (by omega)) ?_
  refine lQ.loadN (cLg 1266 rfl) rfl ?_
  refine lQ.loadI (cLg 1267 rfl) rfl ?_
  refine lQ.push (cLg 1268 rfl) ?_
  refine lQ.binI (cLg 1269 rfl) ?_
  refine lQ.ald hR (cLg 1270 rfl) (hI.scr hn8 2 (by omega)) ?_
  refine lQ.loadN (cLg 1271 rfl) rfl ?_
  refine lQ.callG (args := [.ref h1, .int (f (i + 1)), .int (f (i + 2)), .ref o1]) (r := []) hR (cLg 1272 rfl) rfl rfl (Nat.le_of_ble_eq_true rfl) (Nat.le_of_ble_eq_true rfl) (cs_337 hR hJ hI.1 (w0 := some h1) (w3 := some o1) f1 f3 c1) ?_ (fun _ _ _ z => by cases z.1)
  rintro _ _ ⟨e_, y, A, hW, hX, rfl⟩
  cases e_
  have f1 := hX.1 _ _ f1
  have f3 := hX.1 _ _ f3
  have hI := hI.ext hW hX
  refine lQ.stI (cLg 1273 rfl) (lN2s rfl rfl) ?_
  refine lQ.loadN (cLg 1274 rfl) rfl ?_
  refine lQ.loadN (cLg 1275 rfl) rfl ?_
  refine lQ.loadI (cLg 1276 rfl) rfl ?_
  refine lQ.push (cLg 1277 rfl) ?_
  refine lQ.binI (cLg 1278 rfl) ?_
  refine lQ.ald hR (cLg 1279 rfl) (hI.scr hn8 1 (by omega)) ?_
  refine lQ.loadN (cLg 1280 rfl) rfl ?_
  refine lQ.loadI (cLg 1281 rfl) rfl ?_
  refine lQ.push (cLg 1282 rfl) ?_
  refine lQ.binI (cLg 1283 rfl) ?_
  refine lQ.ald hR (cLg 1284 rfl) (hI.scr hn8 2 (by omega)) ?_
  rw [hI.sw]
  refine lQ.callVI (F := fun z B => x = z ∧ B = tp ad t' (cp y S A)) (G := fun _ _ => False) (args := [.ref (adr ad 0), .int (f (i + 1)), .int (f (i + 2))]) (r := []) hR (cLg 1285 rfl) rfl rfl (Nat.le_of_ble_eq_true rfl) (Nat.le_of_ble_eq_true rfl) rfl (tk_0 hn rfl) (ts_600 hR hn d1 (cI_mk ⟨rfl, rfl⟩)) ?_ (fun _ _ _ z => z.elim)
  rintro _ _ ⟨rfl, rfl⟩
  refine lQ.stI (cLg 1286 rfl) (lN2s rfl rfl) ?_
  refine lQ.loadN (cLg 1287 rfl) rfl ?_
  refine lQ.callVI (F := fun z B => t'.1 0 = z ∧ B = tp ad t' (cp y S A)) (G := fun _ _ => False) (args := [.ref (adr ad 0)]) (r := []) hR (cLg 1288 rfl) rfl rfl (Nat.le_of_ble_eq_true rfl) (Nat.le_of_ble_eq_true rfl) rfl (tk_0 hn rfl) (ts_556 hR hn (x := t'.1 0) rfl (cI_mk ⟨rfl, rfl⟩)) ?_ (fun _ _ _ z => z.elim)
  rintro _ _ ⟨rfl, rfl⟩
  rw [hI.mv SDa.rf t']
  have hI := hI.tw SDa.rf t'
  refine lQ.loadI (cLg 1289 rfl) rfl ?_
  refine lQ.cmpT (cLg 1290 rfl) (decide_eq_true th) ?_
  refine lQ.loadI (cLg 1293 rfl) rfl ?_
  by_cases hk : kk = 0
  · refine lQ.ifF (cLg 1294 rfl) (decide_eq_false (fun z => z hk)) ?_
    have hv := ov _ hk rfl
    have g3 := LV_out hI.1 f3 hv
    refine lQ.loadN (cLg 1295 rfl) rfl ?_
    refine lQ.push (cLg 1296 rfl) ?_
    refine lQ.ald hR (cLg 1297 rfl) g3 ?_
    refine lQ.loadI (cLg 1298 rfl) rfl ?_
    refine lQ.i2l (cLg 1299 rfl) ?_
    refine lQ.lcmp (cLg 1300 rfl) ?_
    refine lQ.ifT (cLg 1301 rfl) (decide_eq_true (lg_cmp_rf _)) ?_
    refine lQ.goto (cLg 1304 rfl) ?_
    exact lQ.sub (LLs (by rfl) (by rfl) (by rfl) (by rfl) (by rfl)) (k _ _ _ _ _ _ _ _ hn ⟨hI, r', f1, f3⟩ kK kc ks ((k1_600 K1N.rf).2 _ d1).2)
  · refine lQ.ifT (cLg 1294 rfl) (decide_eq_true hk) ?_
    refine lQ.goto (cLg 1304 rfl) ?_
    exact lQ.sub (LLs (by rfl) (by rfl) (by rfl) (by rfl) (by rfl)) (k _ _ _ _ _ _ _ _ hn ⟨hI, r', f1, f3⟩ kK kc ks ((k1_600 K1N.rf).2 _ d1).2)
theorem lc_two (hR : lRok R) (hJ : JAll R E) (hn : tOk ad) (hn8 : n ≤ 448) (hi : i + 7 ≤ n) (h : LV E ad b n f h1 o1 o y s A own t K N) (hK : K < 900) (hc : s.2.2.1 < 3800000000) (k : LK R E b n f h1 o1 o i s own t K N 1 6 Z) : lQ R E 1625 cd_L 1305 (LL ad b h1 o1 i) [] (cp y s A) Z := by
  obtain ⟨hI, r, f1, f3⟩ := h
  by_cases hb : f (i + 2) = 0
  · obtain ⟨kk, S, x, t', own', K', N', c1, d1, th, ov, r', kK, kc, ks⟩ := lwa_two r (f (i + 1)) 0 (Or.inl rfl)
    refine lQ.loadN (cLg 1305 rfl) rfl ?_
    refine lQ.loadN (cLg 1306 rfl) rfl ?_
    refine lQ.loadI (cLg 1307 rfl) rfl ?_
    refine lQ.push (cLg 1308 rfl) ?_
    refine lQ.binI (cLg 1309 rfl) ?_
    refine lQ.ald hR (cLg 1310 rfl) (hI.scr hn8 1 (by omega)) ?_
    refine lQ.loadN (cLg 1311 rfl) rfl ?_
    refine lQ.loadI (cLg 1312 rfl) rfl ?_
    refine lQ.push (cLg 1313 rfl) ?_
    refine lQ.binI (cLg 1314 rfl) ?_
    refine lQ.ald hR (cLg 1315 rfl) (hI.scr hn8 2 (by omega)) ?_
    refine lQ.ifT (cLg 1316 rfl) (decide_eq_true hb) ?_
    refine lQ.push (cLg 1319 rfl) ?_
    refine lQ.loadN (cLg 1320 rfl) rfl ?_
    refine lQ.callG (args := [.ref h1, .int (f (i + 1)), .int 0, .ref o1]) (r := []) hR (cLg 1321 rfl) rfl rfl (Nat.le_of_ble_eq_true rfl) (Nat.le_of_ble_eq_true rfl) (cs_338 hR hJ hI.1 (w0 := some h1) (w3 := some o1) f1 f3 c1) ?_ (fun _ _ _ z => by cases z.1)
    rintro _ _ ⟨e_, y, A, hW, hX, rfl⟩
    cases e_
    have f1 := hX.1 _ _ f1
    have f3 := hX.1 _ _ f3
    have hI := hI.ext hW hX
    refine lQ.stI (cLg 1322 rfl) (lN2s rfl rfl) ?_
    refine lQ.loadN (cLg 1323 rfl) rfl ?_
    refine lQ.loadN (cLg 1324 rfl) rfl ?_
    refine lQ.loadI (cLg 1325 rfl) rfl ?_
    refine lQ.push (cLg 1326 rfl) ?_
    refine lQ.binI (cLg 1327 rfl) ?_
    refine lQ.ald hR (cLg 1328 rfl) (hI.scr hn8 1 (by omega)) ?_
    refine lQ.loadN (cLg 1329 rfl) rfl ?_
    refine lQ.loadI (cLg 1330 rfl) rfl ?_
    refine lQ.push (cLg 1331 rfl) ?_
    refine lQ.binI (cLg 1332 rfl) ?_
    refine lQ.ald hR (cLg 1333 rfl) (hI.scr hn8 2 (by omega)) ?_
    refine lQ.ifT (cLg 1334 rfl) (decide_eq_true hb) ?_
    refine lQ.push (cLg 1337 rfl) ?_
    rw [hI.sw]
    refine lQ.callVI (F := fun z B => x = z ∧ B = tp ad t' (cp y S A)) (G := fun _ _ => False) (args := [.ref (adr ad 0), .int (f (i + 1)), .int 0]) (r := []) hR (cLg 1338 rfl) rfl rfl (Nat.le_of_ble_eq_true rfl) (Nat.le_of_ble_eq_true rfl) rfl (tk_0 hn rfl) (ts_601 hR hn d1 (cI_mk ⟨rfl, rfl⟩)) ?_ (fun _ _ _ z => z.elim)
    rintro _ _ ⟨rfl, rfl⟩
    refine lQ.stI (cLg 1339 rfl) (lN2s rfl rfl) ?_
    refine lQ.loadN (cLg 1340 rfl) rfl ?_
    refine lQ.callVI (F := fun z B => t'.1 0 = z ∧ B = tp ad t' (cp y S A)) (G := fun _ _ => False) (args := [.ref (adr ad 0)]) (r := []) hR (cLg 1341 rfl) rfl rfl (Nat.le_of_ble_eq_true rfl) (Nat.le_of_ble_eq_true rfl) rfl (tk_0 hn rfl) (ts_556 hR hn (x := t'.1 0) rfl (cI_mk ⟨rfl, rfl⟩)) ?_ (fun _ _ _ z => z.elim)
    rintro _ _ ⟨rfl, rfl⟩
    rw [hI.mv SDa.rf t']
    have hI := hI.tw SDa.rf t'
    refine lQ.loadI (cLg 1342 rfl) rfl ?_
    refine lQ.cmpT (cLg 1343 rfl) (decide_eq_true th) ?_
    refine lQ.loadI (cLg 1346 rfl) rfl ?_
    by_cases hk : kk = 0
    · refine lQ.ifF (cLg 1347 rfl) (decide_eq_false (fun z => z hk)) ?_
      have hv := ov _ hk rfl
      have g3 := LV_out hI.1 f3 hv
      refine lQ.loadN (cLg 1348 rfl) rfl ?_
      refine lQ.push (cLg 1349 rfl) ?_
      refine lQ.ald hR (cLg 1350 rfl) g3 ?_
      refine lQ.loadI (cLg 1351 rfl) rfl ?_
      by_cases hx : x = 0
      · refine lQ.ifT (cLg 1352 rfl) (decide_eq_true hx) ?_
        refine lQ.push (cLg 1355 rfl) ?_
        rw [if_pos hx]
        refine lQ.lcmp (cLg 1356 rfl) ?_
        refine lQ.ifT (cLg 1357 rfl) (decide_eq_true (lg_cmp_rf _)) ?_
        refine lQ.goto (cLg 1360 rfl) ?_
        exact lQ.sub (LLs (by rfl) (by rfl) (by rfl) (by rfl) (by rfl)) (k _ _ _ _ _ _ _ _ hn ⟨hI, r', f1, f3⟩ kK kc ks ((k1_601 K1N.rf).2 _ d1).2)
      · refine lQ.ifF (cLg 1352 rfl) (decide_eq_false hx) ?_
        refine lQ.push (cLg 1353 rfl) ?_
        refine lQ.goto (cLg 1354 rfl) ?_
        rw [if_neg hx]
        refine lQ.lcmp (cLg 1356 rfl) ?_
        refine lQ.ifT (cLg 1357 rfl) (decide_eq_true (lg_cmp_rf _)) ?_
        refine lQ.goto (cLg 1360 rfl) ?_
        exact lQ.sub (LLs (by rfl) (by rfl) (by rfl) (by rfl) (by rfl)) (k _ _ _ _ _ _ _ _ hn ⟨hI, r', f1, f3⟩ kK kc ks ((k1_601 K1N.rf).2 _ d1).2)
    · refine lQ.ifT (cLg 1347 rfl) (decide_eq_true hk) ?_
      refine lQ.goto (cLg 1360 rfl) ?_
      exact lQ.sub (LLs (by rfl) (by rfl) (by rfl) (by rfl) (by rfl)) (k _ _ _ _ _ _ _ _ hn ⟨hI, r', f1, f3⟩ kK kc ks ((k1_601 K1N.rf).2 _ d1).2)
  · obtain ⟨kk, S, x, t', own', K', N', c1, d1, th, ov, r', kK, kc, ks⟩ := lwa_two r (f (i + 1)) 1 (Or.inr rfl)
    refine lQ.loadN (cLg 1305 rfl) rfl ?_
    refine lQ.loadN (cLg 1306 rfl) rfl ?_
    refine lQ.loadI (cLg 1307 rfl) rfl ?_
    refine lQ.push (cLg 1308 rfl) ?_
    refine lQ.binI (cLg 1309 rfl) ?_
    refine lQ.ald hR (cLg 1310 rfl) (hI.scr hn8 1 (by omega)) ?_
    refine lQ.loadN (cLg 1311 rfl) rfl ?_
    refine lQ.loadI (cLg 1312 rfl) rfl ?_
    refine lQ.push (cLg 1313 rfl) ?_
    refine lQ.binI (cLg 1314 rfl) ?_
    refine lQ.ald hR (cLg 1315 rfl) (hI.scr hn8 2 (by omega)) ?_
    refine lQ.ifF (cLg 1316 rfl) (decide_eq_false hb) ?_
    refine lQ.push (cLg 1317 rfl) ?_
    refine lQ.goto (cLg 1318 rfl) ?_
    refine lQ.loadN (cLg 1320 rfl) rfl ?_
    refine lQ.callG (args := [.ref h1, .int (f (i + 1)), .int 1, .ref o1]) (r := []) hR (cLg 1321 rfl) rfl rfl (Nat.le_of_ble_eq_true rfl) (Nat.le_of_ble_eq_true rfl) (cs_338 hR hJ hI.1 (w0 := some h1) (w3 := some o1) f1 f3 c1) ?_ (fun _ _ _ z => by cases z.1)
    rintro _ _ ⟨e_, y, A, hW, hX, rfl⟩
    cases e_
    have f1 := hX.1 _ _ f1
    have f3 := hX.1 _ _ f3
    have hI := hI.ext hW hX
    refine lQ.stI (cLg 1322 rfl) (lN2s rfl rfl) ?_
    refine lQ.loadN (cLg 1323 rfl) rfl ?_
    refine lQ.loadN (cLg 1324 rfl) rfl ?_
    refine lQ.loadI (cLg 1325 rfl) rfl ?_
    refine lQ.push (cLg 1326 rfl) ?_
    refine lQ.binI (cLg 1327 rfl) ?_
    refine lQ.ald hR (cLg 1328 rfl) (hI.scr hn8 1 (by omega)) ?_
    refine lQ.loadN (cLg 1329 rfl) rfl ?_
    refine lQ.loadI (cLg 1330 rfl) rfl ?_
    refine lQ.push (cLg 1331 rfl) ?_
    refine lQ.binI (cLg 1332 rfl) ?_
    refine lQ.ald hR (cLg 1333 rfl) (hI.scr hn8 2 (by omega)) ?_
    refine lQ.ifF (cLg 1334 rfl) (decide_eq_false hb) ?_
    refine lQ.push (cLg 1335 rfl) ?_
    refine lQ.goto (cLg 1336 rfl) ?_
    rw [hI.sw]
    refine lQ.callVI (F := fun z B => x = z ∧ B = tp ad t' (cp y S A)) (G := fun _ _ => False) (args := [.ref (adr ad 0), .int (f (i + 1)), .int 1]) (r := []) hR (cLg 1338 rfl) rfl rfl (Nat.le_of_ble_eq_true rfl) (Nat.le_of_ble_eq_true rfl) rfl (tk_0 hn rfl) (ts_601 hR hn d1 (cI_mk ⟨rfl, rfl⟩)) ?_ (fun _ _ _ z => z.elim)
    rintro _ _ ⟨rfl, rfl⟩
    refine lQ.stI (cLg 1339 rfl) (lN2s rfl rfl) ?_
    refine lQ.loadN (cLg 1340 rfl) rfl ?_
    refine lQ.callVI (F := fun z B => t'.1 0 = z ∧ B = tp ad t' (cp y S A)) (G := fun _ _ => False) (args := [.ref (adr ad 0)]) (r := []) hR (cLg 1341 rfl) rfl rfl (Nat.le_of_ble_eq_true rfl) (Nat.le_of_ble_eq_true rfl) rfl (tk_0 hn rfl) (ts_556 hR hn (x := t'.1 0) rfl (cI_mk ⟨rfl, rfl⟩)) ?_ (fun _ _ _ z => z.elim)
    rintro _ _ ⟨rfl, rfl⟩
    rw [hI.mv SDa.rf t']
    have hI := hI.tw SDa.rf t'
    refine lQ.loadI (cLg 1342 rfl) rfl ?_
    refine lQ.cmpT (cLg 1343 rfl) (decide_eq_true th) ?_
    refine lQ.loadI (cLg 1346 rfl) rfl ?_
    by_cases hk : kk = 0
    · refine lQ.ifF (cLg 1347 rfl) (decide_eq_false (fun z => z hk)) ?_
      have hv := ov _ hk rfl
      have g3 := LV_out hI.1 f3 hv
      refine lQ.loadN (cLg 1348 rfl) rfl ?_
      refine lQ.push (cLg 1349 rfl) ?_
      refine lQ.ald hR (cLg 1350 rfl) g3 ?_
      refine lQ.loadI (cLg 1351 rfl) rfl ?_
      by_cases hx : x = 0
      · refine lQ.ifT (cLg 1352 rfl) (decide_eq_true hx) ?_
        refine lQ.push (cLg 1355 rfl) ?_
        rw [if_pos hx]
        refine lQ.lcmp (cLg 1356 rfl) ?_
        refine lQ.ifT (cLg 1357 rfl) (decide_eq_true (lg_cmp_rf _)) ?_
        refine lQ.goto (cLg 1360 rfl) ?_
        exact lQ.sub (LLs (by rfl) (by rfl) (by rfl) (by rfl) (by rfl)) (k _ _ _ _ _ _ _ _ hn ⟨hI, r', f1, f3⟩ kK kc ks ((k1_601 K1N.rf).2 _ d1).2)
      · refine lQ.ifF (cLg 1352 rfl) (decide_eq_false hx) ?_
        refine lQ.push (cLg 1353 rfl) ?_
        refine lQ.goto (cLg 1354 rfl) ?_
        rw [if_neg hx]
        refine lQ.lcmp (cLg 1356 rfl) ?_
        refine lQ.ifT (cLg 1357 rfl) (decide_eq_true (lg_cmp_rf _)) ?_
        refine lQ.goto (cLg 1360 rfl) ?_
        exact lQ.sub (LLs (by rfl) (by rfl) (by rfl) (by rfl) (by rfl)) (k _ _ _ _ _ _ _ _ hn ⟨hI, r', f1, f3⟩ kK kc ks ((k1_601 K1N.rf).2 _ d1).2)
    · refine lQ.ifT (cLg 1347 rfl) (decide_eq_true hk) ?_
      refine lQ.goto (cLg 1360 rfl) ?_
      exact lQ.sub (LLs (by rfl) (by rfl) (by rfl) (by rfl) (by rfl)) (k _ _ _ _ _ _ _ _ hn ⟨hI, r', f1, f3⟩ kK kc ks ((k1_601 K1N.rf).2 _ d1).2)
theorem lc_airlock (hR : lRok R) (hJ : JAll R E) (hn : tOk ad) (hn8 : n ≤ 448) (hi : i + 7 ≤ n) (h : LV E ad b n f h1 o1 o y s A own t K N) (hK : K < 900) (hc : s.2.2.1 < 3800000000) (k : LK R E b n f h1 o1 o i s own t K N 3 106 Z) : lQ R E 1625 cd_L 1361 (LL ad b h1 o1 i) [] (cp y s A) Z := by
  obtain ⟨hI, r, f1, f3⟩ := h
  by_cases hb : f (i + 3) = 0
  · obtain ⟨kk, S, x, t', own', K', N', c1, d1, th, ov, r', kK, kc, ks⟩ := lwa_airlock r (f (i + 1)) (f (i + 2)) 0 (by omega) (Or.inl rfl)
    refine lQ.loadN (cLg 1361 rfl) rfl ?_
    refine lQ.loadN (cLg 1362 rfl) rfl ?_
    refine lQ.loadI (cLg 1363 rfl) rfl ?_
    refine lQ.push (cLg 1364 rfl) ?_
    refine lQ.binI (cLg 1365 rfl) ?_
    refine lQ.ald hR (cLg 1366 rfl) (hI.scr hn8 1 (by omega)) ?_
    refine lQ.loadN (cLg 1367 rfl) rfl ?_
    refine lQ.loadI (cLg 1368 rfl) rfl ?_
    refine lQ.push (cLg 1369 rfl) ?_
    refine lQ.binI (cLg 1370 rfl) ?_
    refine lQ.ald hR (cLg 1371 rfl) (hI.scr hn8 2 (by omega)) ?_
    refine lQ.loadN (cLg 1372 rfl) rfl ?_
    refine lQ.loadI (cLg 1373 rfl) rfl ?_
    refine lQ.push (cLg 1374 rfl) ?_
    refine lQ.binI (cLg 1375 rfl) ?_
    refine lQ.ald hR (cLg 1376 rfl) (hI.scr hn8 3 (by omega)) ?_
    refine lQ.ifT (cLg 1377 rfl) (decide_eq_true hb) ?_
    refine lQ.push (cLg 1380 rfl) ?_
    refine lQ.loadN (cLg 1381 rfl) rfl ?_
    refine lQ.callG (args := [.ref h1, .int (f (i + 1)), .int (f (i + 2)), .int 0, .ref o1]) (r := []) hR (cLg 1382 rfl) rfl rfl (Nat.le_of_ble_eq_true rfl) (Nat.le_of_ble_eq_true rfl) (cs_339 hR hJ hI.1 (w0 := some h1) (w4 := some o1) f1 f3 c1) ?_ (fun _ _ _ z => by cases z.1)
    rintro _ _ ⟨e_, y, A, hW, hX, rfl⟩
    cases e_
    have f1 := hX.1 _ _ f1
    have f3 := hX.1 _ _ f3
    have hI := hI.ext hW hX
    refine lQ.stI (cLg 1383 rfl) (lN2s rfl rfl) ?_
    refine lQ.loadN (cLg 1384 rfl) rfl ?_
    refine lQ.loadN (cLg 1385 rfl) rfl ?_
    refine lQ.loadI (cLg 1386 rfl) rfl ?_
    refine lQ.push (cLg 1387 rfl) ?_
    refine lQ.binI (cLg 1388 rfl) ?_
    refine lQ.ald hR (cLg 1389 rfl) (hI.scr hn8 1 (by omega)) ?_
    refine lQ.loadN (cLg 1390 rfl) rfl ?_
    refine lQ.loadI (cLg 1391 rfl) rfl ?_
    refine lQ.push (cLg 1392 rfl) ?_
    refine lQ.binI (cLg 1393 rfl) ?_
    refine lQ.ald hR (cLg 1394 rfl) (hI.scr hn8 2 (by omega)) ?_
    refine lQ.loadN (cLg 1395 rfl) rfl ?_
    refine lQ.loadI (cLg 1396 rfl) rfl ?_
    refine lQ.push (cLg 1397 rfl) ?_
    refine lQ.binI (cLg 1398 rfl) ?_
    refine lQ.ald hR (cLg 1399 rfl) (hI.scr hn8 3 (by omega)) ?_
    refine lQ.ifT (cLg 1400 rfl) (decide_eq_true hb) ?_
    refine lQ.push (cLg 1403 rfl) ?_
    rw [hI.sw]
    refine lQ.callVI (F := fun z B => x = z ∧ B = tp ad t' (cp y S A)) (G := fun _ _ => False) (args := [.ref (adr ad 0), .int (f (i + 1)), .int (f (i + 2)), .int 0]) (r := []) hR (cLg 1404 rfl) rfl rfl (Nat.le_of_ble_eq_true rfl) (Nat.le_of_ble_eq_true rfl) rfl (tk_0 hn rfl) (ts_602 hR hn d1 (cI_mk ⟨rfl, rfl⟩)) ?_ (fun _ _ _ z => z.elim)
    rintro _ _ ⟨rfl, rfl⟩
    refine lQ.stI (cLg 1405 rfl) (lN2s rfl rfl) ?_
    refine lQ.loadN (cLg 1406 rfl) rfl ?_
    refine lQ.callVI (F := fun z B => t'.1 0 = z ∧ B = tp ad t' (cp y S A)) (G := fun _ _ => False) (args := [.ref (adr ad 0)]) (r := []) hR (cLg 1407 rfl) rfl rfl (Nat.le_of_ble_eq_true rfl) (Nat.le_of_ble_eq_true rfl) rfl (tk_0 hn rfl) (ts_556 hR hn (x := t'.1 0) rfl (cI_mk ⟨rfl, rfl⟩)) ?_ (fun _ _ _ z => z.elim)
    rintro _ _ ⟨rfl, rfl⟩
    rw [hI.mv SDa.rf t']
    have hI := hI.tw SDa.rf t'
    refine lQ.loadI (cLg 1408 rfl) rfl ?_
    refine lQ.cmpT (cLg 1409 rfl) (decide_eq_true th) ?_
    refine lQ.loadI (cLg 1412 rfl) rfl ?_
    by_cases hk : kk = 0
    · refine lQ.ifF (cLg 1413 rfl) (decide_eq_false (fun z => z hk)) ?_
      have hv := ov _ hk rfl
      have g3 := LV_out hI.1 f3 hv
      refine lQ.loadN (cLg 1414 rfl) rfl ?_
      refine lQ.push (cLg 1415 rfl) ?_
      refine lQ.ald hR (cLg 1416 rfl) g3 ?_
      refine lQ.loadI (cLg 1417 rfl) rfl ?_
      by_cases hx : x = 0
      · refine lQ.ifT (cLg 1418 rfl) (decide_eq_true hx) ?_
        refine lQ.push (cLg 1421 rfl) ?_
        rw [if_pos hx]
        refine lQ.lcmp (cLg 1422 rfl) ?_
        refine lQ.ifT (cLg 1423 rfl) (decide_eq_true (lg_cmp_rf _)) ?_
        refine lQ.goto (cLg 1426 rfl) ?_
        exact lQ.sub (LLs (by rfl) (by rfl) (by rfl) (by rfl) (by rfl)) (k _ _ _ _ _ _ _ _ hn ⟨hI, r', f1, f3⟩ kK kc ks ((k1_602 K1N.rf).2 _ d1).2)
      · refine lQ.ifF (cLg 1418 rfl) (decide_eq_false hx) ?_
        refine lQ.push (cLg 1419 rfl) ?_
        refine lQ.goto (cLg 1420 rfl) ?_
        rw [if_neg hx]
        refine lQ.lcmp (cLg 1422 rfl) ?_
        refine lQ.ifT (cLg 1423 rfl) (decide_eq_true (lg_cmp_rf _)) ?_
        refine lQ.goto (cLg 1426 rfl) ?_
        exact lQ.sub (LLs (by rfl) (by rfl) (by rfl) (by rfl) (by rfl)) (k _ _ _ _ _ _ _ _ hn ⟨hI, r', f1, f3⟩ kK kc ks ((k1_602 K1N.rf).2 _ d1).2)
    · refine lQ.ifT (cLg 1413 rfl) (decide_eq_true hk) ?_
      refine lQ.goto (cLg 1426 rfl) ?_
      exact lQ.sub (LLs (by rfl) (by rfl) (by rfl) (by rfl) (by rfl)) (k _ _ _ _ _ _ _ _ hn ⟨hI, r', f1, f3⟩ kK kc ks ((k1_602 K1N.rf).2 _ d1).2)
  · obtain ⟨kk, S, x, t', own', K', N', c1, d1, th, ov, r', kK, kc, ks⟩ := lwa_airlock r (f (i + 1)) (f (i + 2)) 1 (by omega) (Or.inr rfl)
    refine lQ.loadN (cLg 1361 rfl) rfl ?_
    refine lQ.loadN (cLg 1362 rfl) rfl ?_
    refine lQ.loadI (cLg 1363 rfl) rfl ?_
    refine lQ.push (cLg 1364 rfl) ?_
    refine lQ.binI (cLg 1365 rfl) ?_
    refine lQ.ald hR (cLg 1366 rfl) (hI.scr hn8 1 (by omega)) ?_
    refine lQ.loadN (cLg 1367 rfl) rfl ?_
    refine lQ.loadI (cLg 1368 rfl) rfl ?_
    refine lQ.push (cLg 1369 rfl) ?_
    refine lQ.binI (cLg 1370 rfl) ?_
    refine lQ.ald hR (cLg 1371 rfl) (hI.scr hn8 2 (by omega)) ?_
    refine lQ.loadN (cLg 1372 rfl) rfl ?_
    refine lQ.loadI (cLg 1373 rfl) rfl ?_
    refine lQ.push (cLg 1374 rfl) ?_
    refine lQ.binI (cLg 1375 rfl) ?_
    refine lQ.ald hR (cLg 1376 rfl) (hI.scr hn8 3 (by omega)) ?_
    refine lQ.ifF (cLg 1377 rfl) (decide_eq_false hb) ?_
    refine lQ.push (cLg 1378 rfl) ?_
    refine lQ.goto (cLg 1379 rfl) ?_
    refine lQ.loadN (cLg 1381 rfl) rfl ?_
    refine lQ.callG (args := [.ref h1, .int (f (i + 1)), .int (f (i + 2)), .int 1, .ref o1]) (r := []) hR (cLg 1382 rfl) rfl rfl (Nat.le_of_ble_eq_true rfl) (Nat.le_of_ble_eq_true rfl) (cs_339 hR hJ hI.1 (w0 := some h1) (w4 := some o1) f1 f3 c1) ?_ (fun _ _ _ z => by cases z.1)
    rintro _ _ ⟨e_, y, A, hW, hX, rfl⟩
    cases e_
    have f1 := hX.1 _ _ f1
    have f3 := hX.1 _ _ f3
    have hI := hI.ext hW hX
    refine lQ.stI (cLg 1383 rfl) (lN2s rfl rfl) ?_
    refine lQ.loadN (cLg 1384 rfl) rfl ?_
    refine lQ.loadN (cLg 1385 rfl) rfl ?_
    refine lQ.loadI (cLg 1386 rfl) rfl ?_
    refine lQ.push (cLg 1387 rfl) ?_
    refine lQ.binI (cLg 1388 rfl) ?_
    refine lQ.ald hR (cLg 1389 rfl) (hI.scr hn8 1 (by omega)) ?_
    refine lQ.loadN (cLg 1390 rfl) rfl ?_
    refine lQ.loadI (cLg 1391 rfl) rfl ?_
    refine lQ.push (cLg 1392 rfl) ?_
    refine lQ.binI (cLg 1393 rfl) ?_
    refine lQ.ald hR (cLg 1394 rfl) (hI.scr hn8 2 (by omega)) ?_
    refine lQ.loadN (cLg 1395 rfl) rfl ?_
    refine lQ.loadI (cLg 1396 rfl) rfl ?_
    refine lQ.push (cLg 1397 rfl) ?_
    refine lQ.binI (cLg 1398 rfl) ?_
    refine lQ.ald hR (cLg 1399 rfl) (hI.scr hn8 3 (by omega)) ?_
    refine lQ.ifF (cLg 1400 rfl) (decide_eq_false hb) ?_
    refine lQ.push (cLg 1401 rfl) ?_
    refine lQ.goto (cLg 1402 rfl) ?_
    rw [hI.sw]
    refine lQ.callVI (F := fun z B => x = z ∧ B = tp ad t' (cp y S A)) (G := fun _ _ => False) (args := [.ref (adr ad 0), .int (f (i + 1)), .int (f (i + 2)), .int 1]) (r := []) hR (cLg 1404 rfl) rfl rfl (Nat.le_of_ble_eq_true rfl) (Nat.le_of_ble_eq_true rfl) rfl (tk_0 hn rfl) (ts_602 hR hn d1 (cI_mk ⟨rfl, rfl⟩)) ?_ (fun _ _ _ z => z.elim)
    rintro _ _ ⟨rfl, rfl⟩
    refine lQ.stI (cLg 1405 rfl) (lN2s rfl rfl) ?_
    refine lQ.loadN (cLg 1406 rfl) rfl ?_
    refine lQ.callVI (F := fun z B => t'.1 0 = z ∧ B = tp ad t' (cp y S A)) (G := fun _ _ => False) (args := [.ref (adr ad 0)]) (r := []) hR (cLg 1407 rfl) rfl rfl (Nat.le_of_ble_eq_true rfl) (Nat.le_of_ble_eq_true rfl) rfl (tk_0 hn rfl) (ts_556 hR hn (x := t'.1 0) rfl (cI_mk ⟨rfl, rfl⟩)) ?_ (fun _ _ _ z => z.elim)
    rintro _ _ ⟨rfl, rfl⟩
    rw [hI.mv SDa.rf t']
    have hI := hI.tw SDa.rf t'
    refine lQ.loadI (cLg 1408 rfl) rfl ?_
    refine lQ.cmpT (cLg 1409 rfl) (decide_eq_true th) ?_
    refine lQ.loadI (cLg 1412 rfl) rfl ?_
    by_cases hk : kk = 0
    · refine lQ.ifF (cLg 1413 rfl) (decide_eq_false (fun z => z hk)) ?_
      have hv := ov _ hk rfl
      have g3 := LV_out hI.1 f3 hv
      refine lQ.loadN (cLg 1414 rfl) rfl ?_
      refine lQ.push (cLg 1415 rfl) ?_
      refine lQ.ald hR (cLg 1416 rfl) g3 ?_
      refine lQ.loadI (cLg 1417 rfl) rfl ?_
      by_cases hx : x = 0
      · refine lQ.ifT (cLg 1418 rfl) (decide_eq_true hx) ?_
        refine lQ.push (cLg 1421 rfl) ?_
        rw [if_pos hx]
        refine lQ.lcmp (cLg 1422 rfl) ?_
        refine lQ.ifT (cLg 1423 rfl) (decide_eq_true (lg_cmp_rf _)) ?_
        refine lQ.goto (cLg 1426 rfl) ?_
        exact lQ.sub (LLs (by rfl) (by rfl) (by rfl) (by rfl) (by rfl)) (k _ _ _ _ _ _ _ _ hn ⟨hI, r', f1, f3⟩ kK kc ks ((k1_602 K1N.rf).2 _ d1).2)
      · refine lQ.ifF (cLg 1418 rfl) (decide_eq_false hx) ?_
        refine lQ.push (cLg 1419 rfl) ?_
        refine lQ.goto (cLg 1420 rfl) ?_
        rw [if_neg hx]
        refine lQ.lcmp (cLg 1422 rfl) ?_
        refine lQ.ifT (cLg 1423 rfl) (decide_eq_true (lg_cmp_rf _)) ?_
        refine lQ.goto (cLg 1426 rfl) ?_
        exact lQ.sub (LLs (by rfl) (by rfl) (by rfl) (by rfl) (by rfl)) (k _ _ _ _ _ _ _ _ hn ⟨hI, r', f1, f3⟩ kK kc ks ((k1_602 K1N.rf).2 _ d1).2)
    · refine lQ.ifT (cLg 1413 rfl) (decide_eq_true hk) ?_
      refine lQ.goto (cLg 1426 rfl) ?_
      exact lQ.sub (LLs (by rfl) (by rfl) (by rfl) (by rfl) (by rfl)) (k _ _ _ _ _ _ _ _ hn ⟨hI, r', f1, f3⟩ kK kc ks ((k1_602 K1N.rf).2 _ d1).2)
theorem lc_stands (hR : lRok R) (hJ : JAll R E) (hn : tOk ad) (hn8 : n ≤ 448) (hi : i + 7 ≤ n) (h : LV E ad b n f h1 o1 o y s A own t K N) (hK : K < 900) (hc : s.2.2.1 < 3800000000) (k : LK R E b n f h1 o1 o i s own t K N 1 6 Z) : lQ R E 1625 cd_L 1427 (LL ad b h1 o1 i) [] (cp y s A) Z := by
  obtain ⟨hI, r, f1, f3⟩ := h
  by_cases hb : f (i + 2) = 0
  · obtain ⟨kk, S, x, t', own', K', N', c1, d1, th, ov, r', kK, kc, ks⟩ := lwa_stands r (f (i + 1)) 0 (Or.inl rfl)
    refine lQ.loadN (cLg 1427 rfl) rfl ?_
    refine lQ.loadN (cLg 1428 rfl) rfl ?_
    refine lQ.loadI (cLg 1429 rfl) rfl ?_
    refine lQ.push (cLg 1430 rfl) ?_
    refine lQ.binI (cLg 1431 rfl) ?_
    refine lQ.ald hR (cLg 1432 rfl) (hI.scr hn8 1 (by omega)) ?_
    refine lQ.loadN (cLg 1433 rfl) rfl ?_
    refine lQ.loadI (cLg 1434 rfl) rfl ?_
    refine lQ.push (cLg 1435 rfl) ?_
    refine lQ.binI (cLg 1436 rfl) ?_
    refine lQ.ald hR (cLg 1437 rfl) (hI.scr hn8 2 (by omega)) ?_
    refine lQ.ifT (cLg 1438 rfl) (decide_eq_true hb) ?_
    refine lQ.push (cLg 1441 rfl) ?_
    refine lQ.loadN (cLg 1442 rfl) rfl ?_
    refine lQ.callG (args := [.ref h1, .int (f (i + 1)), .int 0, .ref o1]) (r := []) hR (cLg 1443 rfl) rfl rfl (Nat.le_of_ble_eq_true rfl) (Nat.le_of_ble_eq_true rfl) (cs_340 hR hJ hI.1 (w0 := some h1) (w3 := some o1) f1 f3 c1) ?_ (fun _ _ _ z => by cases z.1)
    rintro _ _ ⟨e_, y, A, hW, hX, rfl⟩
    cases e_
    have f1 := hX.1 _ _ f1
    have f3 := hX.1 _ _ f3
    have hI := hI.ext hW hX
    refine lQ.stI (cLg 1444 rfl) (lN2s rfl rfl) ?_
    refine lQ.loadN (cLg 1445 rfl) rfl ?_
    refine lQ.loadN (cLg 1446 rfl) rfl ?_
    refine lQ.loadI (cLg 1447 rfl) rfl ?_
    refine lQ.push (cLg 1448 rfl) ?_
    refine lQ.binI (cLg 1449 rfl) ?_
    refine lQ.ald hR (cLg 1450 rfl) (hI.scr hn8 1 (by omega)) ?_
    refine lQ.loadN (cLg 1451 rfl) rfl ?_
    refine lQ.loadI (cLg 1452 rfl) rfl ?_
    refine lQ.push (cLg 1453 rfl) ?_
    refine lQ.binI (cLg 1454 rfl) ?_
    refine lQ.ald hR (cLg 1455 rfl) (hI.scr hn8 2 (by omega)) ?_
    refine lQ.ifT (cLg 1456 rfl) (decide_eq_true hb) ?_
    refine lQ.push (cLg 1459 rfl) ?_
    rw [hI.sw]
    refine lQ.callVI (F := fun z B => x = z ∧ B = tp ad t' (cp y S A)) (G := fun _ _ => False) (args := [.ref (adr ad 0), .int (f (i + 1)), .int 0]) (r := []) hR (cLg 1460 rfl) rfl rfl (Nat.le_of_ble_eq_true rfl) (Nat.le_of_ble_eq_true rfl) rfl (tk_0 hn rfl) (ts_604 hR hn d1 (cI_mk ⟨rfl, rfl⟩)) ?_ (fun _ _ _ z => z.elim)
    rintro _ _ ⟨rfl, rfl⟩
    refine lQ.stI (cLg 1461 rfl) (lN2s rfl rfl) ?_
    refine lQ.loadN (cLg 1462 rfl) rfl ?_
    refine lQ.callVI (F := fun z B => t'.1 0 = z ∧ B = tp ad t' (cp y S A)) (G := fun _ _ => False) (args := [.ref (adr ad 0)]) (r := []) hR (cLg 1463 rfl) rfl rfl (Nat.le_of_ble_eq_true rfl) (Nat.le_of_ble_eq_true rfl) rfl (tk_0 hn rfl) (ts_556 hR hn (x := t'.1 0) rfl (cI_mk ⟨rfl, rfl⟩)) ?_ (fun _ _ _ z => z.elim)
    rintro _ _ ⟨rfl, rfl⟩
    rw [hI.mv SDa.rf t']
    have hI := hI.tw SDa.rf t'
    refine lQ.loadI (cLg 1464 rfl) rfl ?_
    refine lQ.cmpT (cLg 1465 rfl) (decide_eq_true th) ?_
    refine lQ.loadI (cLg 1468 rfl) rfl ?_
    by_cases hk : kk = 0
    · refine lQ.ifF (cLg 1469 rfl) (decide_eq_false (fun z => z hk)) ?_
      have hv := ov _ hk rfl
      have g3 := LV_out hI.1 f3 hv
      refine lQ.loadN (cLg 1470 rfl) rfl ?_
      refine lQ.push (cLg 1471 rfl) ?_
      refine lQ.ald hR (cLg 1472 rfl) g3 ?_
      refine lQ.loadI (cLg 1473 rfl) rfl ?_
      refine lQ.i2l (cLg 1474 rfl) ?_
      refine lQ.lcmp (cLg 1475 rfl) ?_
      refine lQ.ifT (cLg 1476 rfl) (decide_eq_true (lg_cmp_rf _)) ?_
      refine lQ.goto (cLg 1479 rfl) ?_
      exact lQ.sub (LLs (by rfl) (by rfl) (by rfl) (by rfl) (by rfl)) (k _ _ _ _ _ _ _ _ hn ⟨hI, r', f1, f3⟩ kK kc ks ((k1_604 K1N.rf).2 _ d1).2)
    · refine lQ.ifT (cLg 1469 rfl) (decide_eq_true hk) ?_
      refine lQ.goto (cLg 1479 rfl) ?_
      exact lQ.sub (LLs (by rfl) (by rfl) (by rfl) (by rfl) (by rfl)) (k _ _ _ _ _ _ _ _ hn ⟨hI, r', f1, f3⟩ kK kc ks ((k1_604 K1N.rf).2 _ d1).2)
  · obtain ⟨kk, S, x, t', own', K', N', c1, d1, th, ov, r', kK, kc, ks⟩ := lwa_stands r (f (i + 1)) 1 (Or.inr rfl)
    refine lQ.loadN (cLg 1427 rfl) rfl ?_
    refine lQ.loadN (cLg 1428 rfl) rfl ?_
    refine lQ.loadI (cLg 1429 rfl) rfl ?_
    refine lQ.push (cLg 1430 rfl) ?_
    refine lQ.binI (cLg 1431 rfl) ?_
    refine lQ.ald hR (cLg 1432 rfl) (hI.scr hn8 1 (by omega)) ?_
    refine lQ.loadN (cLg 1433 rfl) rfl ?_
    refine lQ.loadI (cLg 1434 rfl) rfl ?_
    refine lQ.push (cLg 1435 rfl) ?_
    refine lQ.binI (cLg 1436 rfl) ?_
    refine lQ.ald hR (cLg 1437 rfl) (hI.scr hn8 2 (by omega)) ?_
    refine lQ.ifF (cLg 1438 rfl) (decide_eq_false hb) ?_
    refine lQ.push (cLg 1439 rfl) ?_
    refine lQ.goto (cLg 1440 rfl) ?_
    refine lQ.loadN (cLg 1442 rfl) rfl ?_
    refine lQ.callG (args := [.ref h1, .int (f (i + 1)), .int 1, .ref o1]) (r := []) hR (cLg 1443 rfl) rfl rfl (Nat.le_of_ble_eq_true rfl) (Nat.le_of_ble_eq_true rfl) (cs_340 hR hJ hI.1 (w0 := some h1) (w3 := some o1) f1 f3 c1) ?_ (fun _ _ _ z => by cases z.1)
    rintro _ _ ⟨e_, y, A, hW, hX, rfl⟩
    cases e_
    have f1 := hX.1 _ _ f1
    have f3 := hX.1 _ _ f3
    have hI := hI.ext hW hX
    refine lQ.stI (cLg 1444 rfl) (lN2s rfl rfl) ?_
    refine lQ.loadN (cLg 1445 rfl) rfl ?_
    refine lQ.loadN (cLg 1446 rfl) rfl ?_
    refine lQ.loadI (cLg 1447 rfl) rfl ?_
    refine lQ.push (cLg 1448 rfl) ?_
    refine lQ.binI (cLg 1449 rfl) ?_
    refine lQ.ald hR (cLg 1450 rfl) (hI.scr hn8 1 (by omega)) ?_
    refine lQ.loadN (cLg 1451 rfl) rfl ?_
    refine lQ.loadI (cLg 1452 rfl) rfl ?_
    refine lQ.push (cLg 1453 rfl) ?_
    refine lQ.binI (cLg 1454 rfl) ?_
    refine lQ.ald hR (cLg 1455 rfl) (hI.scr hn8 2 (by omega)) ?_
    refine lQ.ifF (cLg 1456 rfl) (decide_eq_false hb) ?_
    refine lQ.push (cLg 1457 rfl) ?_
    refine lQ.goto (cLg 1458 rfl) ?_
    rw [hI.sw]
    refine lQ.callVI (F := fun z B => x = z ∧ B = tp ad t' (cp y S A)) (G := fun _ _ => False) (args := [.ref (adr ad 0), .int (f (i + 1)), .int 1]) (r := []) hR (cLg 1460 rfl) rfl rfl (Nat.le_of_ble_eq_true rfl) (Nat.le_of_ble_eq_true rfl) rfl (tk_0 hn rfl) (ts_604 hR hn d1 (cI_mk ⟨rfl, rfl⟩)) ?_ (fun _ _ _ z => z.elim)
    rintro _ _ ⟨rfl, rfl⟩
    refine lQ.stI (cLg 1461 rfl) (lN2s rfl rfl) ?_
    refine lQ.loadN (cLg 1462 rfl) rfl ?_
    refine lQ.callVI (F := fun z B => t'.1 0 = z ∧ B = tp ad t' (cp y S A)) (G := fun _ _ => False) (args := [.ref (adr ad 0)]) (r := []) hR (cLg 1463 rfl) rfl rfl (Nat.le_of_ble_eq_true rfl) (Nat.le_of_ble_eq_true rfl) rfl (tk_0 hn rfl) (ts_556 hR hn (x := t'.1 0) rfl (cI_mk ⟨rfl, rfl⟩)) ?_ (fun _ _ _ z => z.elim)
    rintro _ _ ⟨rfl, rfl⟩
    rw [hI.mv SDa.rf t']
    have hI := hI.tw SDa.rf t'
    refine lQ.loadI (cLg 1464 rfl) rfl ?_
    refine lQ.cmpT (cLg 1465 rfl) (decide_eq_true th) ?_
    refine lQ.loadI (cLg 1468 rfl) rfl ?_
    by_cases hk : kk = 0
    · refine lQ.ifF (cLg 1469 rfl) (decide_eq_false (fun z => z hk)) ?_
      have hv := ov _ hk rfl
      have g3 := LV_out hI.1 f3 hv
      refine lQ.loadN (cLg 1470 rfl) rfl ?_
      refine lQ.push (cLg 1471 rfl) ?_
      refine lQ.ald hR (cLg 1472 rfl) g3 ?_
      refine lQ.loadI (cLg 1473 rfl) rfl ?_
      refine lQ.i2l (cLg 1474 rfl) ?_
      refine lQ.lcmp (cLg 1475 rfl) ?_
      refine lQ.ifT (cLg 1476 rfl) (decide_eq_true (lg_cmp_rf _)) ?_
      refine lQ.goto (cLg 1479 rfl) ?_
      exact lQ.sub (LLs (by rfl) (by rfl) (by rfl) (by rfl) (by rfl)) (k _ _ _ _ _ _ _ _ hn ⟨hI, r', f1, f3⟩ kK kc ks ((k1_604 K1N.rf).2 _ d1).2)
    · refine lQ.ifT (cLg 1469 rfl) (decide_eq_true hk) ?_
      refine lQ.goto (cLg 1479 rfl) ?_
      exact lQ.sub (LLs (by rfl) (by rfl) (by rfl) (by rfl) (by rfl)) (k _ _ _ _ _ _ _ _ hn ⟨hI, r', f1, f3⟩ kK kc ks ((k1_604 K1N.rf).2 _ d1).2)
theorem lc_off (hR : lRok R) (hJ : JAll R E) (hn : tOk ad) (hn8 : n ≤ 448) (hi : i + 7 ≤ n) (h : LV E ad b n f h1 o1 o y s A own t K N) (hK : K < 900) (hc : s.2.2.1 < 3800000000) (k : LK R E b n f h1 o1 o i s own t K N 381 806 Z) : lQ R E 1625 cd_L 1480 (LL ad b h1 o1 i) [] (cp y s A) Z := by
  obtain ⟨hI, r, f1, f3⟩ := h
  by_cases hb : f (i + 2) = 0
  · obtain ⟨kk, S, x, t', own', K', N', c1, d1, th, ov, r', kK, kc, ks⟩ := lwa_off r (f (i + 1)) 0 (by omega)
    refine lQ.loadN (cLg 1480 rfl) rfl ?_
    refine lQ.loadN (cLg 1481 rfl) rfl ?_
    refine lQ.loadI (cLg 1482 rfl) rfl ?_
    refine lQ.push (cLg 1483 rfl) ?_
    refine lQ.binI (cLg 1484 rfl) ?_
    refine lQ.ald hR (cLg 1485 rfl) (hI.scr hn8 1 (by omega)) ?_
    refine lQ.loadN (cLg 1486 rfl) rfl ?_
    refine lQ.loadI (cLg 1487 rfl) rfl ?_
    refine lQ.push (cLg 1488 rfl) ?_
    refine lQ.binI (cLg 1489 rfl) ?_
    refine lQ.ald hR (cLg 1490 rfl) (hI.scr hn8 2 (by omega)) ?_
    refine lQ.ifT (cLg 1491 rfl) (decide_eq_true hb) ?_
    refine lQ.push (cLg 1494 rfl) ?_
    refine lQ.loadN (cLg 1495 rfl) rfl ?_
    refine lQ.callG (args := [.ref h1, .int (f (i + 1)), .int 0, .ref o1]) (r := []) hR (cLg 1496 rfl) rfl rfl (Nat.le_of_ble_eq_true rfl) (Nat.le_of_ble_eq_true rfl) (cs_341 hR hJ hI.1 (w0 := some h1) (w3 := some o1) f1 f3 c1) ?_ (fun _ _ _ z => by cases z.1)
    rintro _ _ ⟨e_, y, A, hW, hX, rfl⟩
    cases e_
    have f1 := hX.1 _ _ f1
    have f3 := hX.1 _ _ f3
    have hI := hI.ext hW hX
    refine lQ.stI (cLg 1497 rfl) (lN2s rfl rfl) ?_
    refine lQ.loadN (cLg 1498 rfl) rfl ?_
    refine lQ.loadN (cLg 1499 rfl) rfl ?_
    refine lQ.loadI (cLg 1500 rfl) rfl ?_
    refine lQ.push (cLg 1501 rfl) ?_
    refine lQ.binI (cLg 1502 rfl) ?_
    refine lQ.ald hR (cLg 1503 rfl) (hI.scr hn8 1 (by omega)) ?_
    refine lQ.loadN (cLg 1504 rfl) rfl ?_
    refine lQ.loadI (cLg 1505 rfl) rfl ?_
    refine lQ.push (cLg 1506 rfl) ?_
    refine lQ.binI (cLg 1507 rfl) ?_
    refine lQ.ald hR (cLg 1508 rfl) (hI.scr hn8 2 (by omega)) ?_
    refine lQ.ifT (cLg 1509 rfl) (decide_eq_true hb) ?_
    refine lQ.push (cLg 1512 rfl) ?_
    rw [hI.sw]
    refine lQ.callVI (F := fun z B => x = z ∧ B = tp ad t' (cp y S A)) (G := fun _ _ => False) (args := [.ref (adr ad 0), .int (f (i + 1)), .int 0]) (r := []) hR (cLg 1513 rfl) rfl rfl (Nat.le_of_ble_eq_true rfl) (Nat.le_of_ble_eq_true rfl) rfl (tk_0 hn rfl) (ts_615 hR hn d1 (cI_mk ⟨rfl, rfl⟩)) ?_ (fun _ _ _ z => z.elim)
    rintro _ _ ⟨rfl, rfl⟩
    refine lQ.stI (cLg 1514 rfl) (lN2s rfl rfl) ?_
    refine lQ.loadN (cLg 1515 rfl) rfl ?_
    refine lQ.callVI (F := fun z B => t'.1 0 = z ∧ B = tp ad t' (cp y S A)) (G := fun _ _ => False) (args := [.ref (adr ad 0)]) (r := []) hR (cLg 1516 rfl) rfl rfl (Nat.le_of_ble_eq_true rfl) (Nat.le_of_ble_eq_true rfl) rfl (tk_0 hn rfl) (ts_556 hR hn (x := t'.1 0) rfl (cI_mk ⟨rfl, rfl⟩)) ?_ (fun _ _ _ z => z.elim)
    rintro _ _ ⟨rfl, rfl⟩
    rw [hI.mv SDa.rf t']
    have hI := hI.tw SDa.rf t'
    refine lQ.loadI (cLg 1517 rfl) rfl ?_
    refine lQ.cmpT (cLg 1518 rfl) (decide_eq_true th) ?_
    refine lQ.loadI (cLg 1521 rfl) rfl ?_
    by_cases hk : kk = 0
    · refine lQ.ifF (cLg 1522 rfl) (decide_eq_false (fun z => z hk)) ?_
      have hv := ov _ hk rfl
      have g3 := LV_out hI.1 f3 hv
      refine lQ.loadN (cLg 1523 rfl) rfl ?_
      refine lQ.push (cLg 1524 rfl) ?_
      refine lQ.ald hR (cLg 1525 rfl) g3 ?_
      refine lQ.loadI (cLg 1526 rfl) rfl ?_
      refine lQ.i2l (cLg 1527 rfl) ?_
      refine lQ.lcmp (cLg 1528 rfl) ?_
      refine lQ.ifT (cLg 1529 rfl) (decide_eq_true (lg_cmp_rf _)) ?_
      refine lQ.goto (cLg 1532 rfl) ?_
      exact lQ.sub (LLs (by rfl) (by rfl) (by rfl) (by rfl) (by rfl)) (k _ _ _ _ _ _ _ _ hn ⟨hI, r', f1, f3⟩ kK kc ks ((k1_615 K1N.rf).2 _ d1).2)
    · refine lQ.ifT (cLg 1522 rfl) (decide_eq_true hk) ?_
      refine lQ.goto (cLg 1532 rfl) ?_
      exact lQ.sub (LLs (by rfl) (by rfl) (by rfl) (by rfl) (by rfl)) (k _ _ _ _ _ _ _ _ hn ⟨hI, r', f1, f3⟩ kK kc ks ((k1_615 K1N.rf).2 _ d1).2)
  · obtain ⟨kk, S, x, t', own', K', N', c1, d1, th, ov, r', kK, kc, ks⟩ := lwa_off r (f (i + 1)) 1 (by omega)
    refine lQ.loadN (cLg 1480 rfl) rfl ?_
    refine lQ.loadN (cLg 1481 rfl) rfl ?_
    refine lQ.loadI (cLg 1482 rfl) rfl ?_
    refine lQ.push (cLg 1483 rfl) ?_
    refine lQ.binI (cLg 1484 rfl) ?_
    refine lQ.ald hR (cLg 1485 rfl) (hI.scr hn8 1 (by omega)) ?_
    refine lQ.loadN (cLg 1486 rfl) rfl ?_
    refine lQ.loadI (cLg 1487 rfl) rfl ?_
    refine lQ.push (cLg 1488 rfl) ?_
    refine lQ.binI (cLg 1489 rfl) ?_
    refine lQ.ald hR (cLg 1490 rfl) (hI.scr hn8 2 (by omega)) ?_
    refine lQ.ifF (cLg 1491 rfl) (decide_eq_false hb) ?_
    refine lQ.push (cLg 1492 rfl) ?_
    refine lQ.goto (cLg 1493 rfl) ?_
    refine lQ.loadN (cLg 1495 rfl) rfl ?_
    refine lQ.callG (args := [.ref h1, .int (f (i + 1)), .int 1, .ref o1]) (r := []) hR (cLg 1496 rfl) rfl rfl (Nat.le_of_ble_eq_true rfl) (Nat.le_of_ble_eq_true rfl) (cs_341 hR hJ hI.1 (w0 := some h1) (w3 := some o1) f1 f3 c1) ?_ (fun _ _ _ z => by cases z.1)
    rintro _ _ ⟨e_, y, A, hW, hX, rfl⟩
    cases e_
    have f1 := hX.1 _ _ f1
    have f3 := hX.1 _ _ f3
    have hI := hI.ext hW hX
    refine lQ.stI (cLg 1497 rfl) (lN2s rfl rfl) ?_
    refine lQ.loadN (cLg 1498 rfl) rfl ?_
    refine lQ.loadN (cLg 1499 rfl) rfl ?_
    refine lQ.loadI (cLg 1500 rfl) rfl ?_
    refine lQ.push (cLg 1501 rfl) ?_
    refine lQ.binI (cLg 1502 rfl) ?_
    refine lQ.ald hR (cLg 1503 rfl) (hI.scr hn8 1 (by omega)) ?_
    refine lQ.loadN (cLg 1504 rfl) rfl ?_
    refine lQ.loadI (cLg 1505 rfl) rfl ?_
    refine lQ.push (cLg 1506 rfl) ?_
    refine lQ.binI (cLg 1507 rfl) ?_
    refine lQ.ald hR (cLg 1508 rfl) (hI.scr hn8 2 (by omega)) ?_
    refine lQ.ifF (cLg 1509 rfl) (decide_eq_false hb) ?_
    refine lQ.push (cLg 1510 rfl) ?_
    refine lQ.goto (cLg 1511 rfl) ?_
    rw [hI.sw]
    refine lQ.callVI (F := fun z B => x = z ∧ B = tp ad t' (cp y S A)) (G := fun _ _ => False) (args := [.ref (adr ad 0), .int (f (i + 1)), .int 1]) (r := []) hR (cLg 1513 rfl) rfl rfl (Nat.le_of_ble_eq_true rfl) (Nat.le_of_ble_eq_true rfl) rfl (tk_0 hn rfl) (ts_615 hR hn d1 (cI_mk ⟨rfl, rfl⟩)) ?_ (fun _ _ _ z => z.elim)
    rintro _ _ ⟨rfl, rfl⟩
    refine lQ.stI (cLg 1514 rfl) (lN2s rfl rfl) ?_
    refine lQ.loadN (cLg 1515 rfl) rfl ?_
    refine lQ.callVI (F := fun z B => t'.1 0 = z ∧ B = tp ad t' (cp y S A)) (G := fun _ _ => False) (args := [.ref (adr ad 0)]) (r := []) hR (cLg 1516 rfl) rfl rfl (Nat.le_of_ble_eq_true rfl) (Nat.le_of_ble_eq_true rfl) rfl (tk_0 hn rfl) (ts_556 hR hn (x := t'.1 0) rfl (cI_mk ⟨rfl, rfl⟩)) ?_ (fun _ _ _ z => z.elim)
    rintro _ _ ⟨rfl, rfl⟩
    rw [hI.mv SDa.rf t']
    have hI := hI.tw SDa.rf t'
    refine lQ.loadI (cLg 1517 rfl) rfl ?_
    refine lQ.cmpT (cLg 1518 rfl) (decide_eq_true th) ?_
    refine lQ.loadI (cLg 1521 rfl) rfl ?_
    by_cases hk : kk = 0
    · refine lQ.ifF (cLg 1522 rfl) (decide_eq_false (fun z => z hk)) ?_
      have hv := ov _ hk rfl
      have g3 := LV_out hI.1 f3 hv
      refine lQ.loadN (cLg 1523 rfl) rfl ?_
      refine lQ.push (cLg 1524 rfl) ?_
      refine lQ.ald hR (cLg 1525 rfl) g3 ?_
      refine lQ.loadI (cLg 1526 rfl) rfl ?_
      refine lQ.i2l (cLg 1527 rfl) ?_
      refine lQ.lcmp (cLg 1528 rfl) ?_
      refine lQ.ifT (cLg 1529 rfl) (decide_eq_true (lg_cmp_rf _)) ?_
      refine lQ.goto (cLg 1532 rfl) ?_
      exact lQ.sub (LLs (by rfl) (by rfl) (by rfl) (by rfl) (by rfl)) (k _ _ _ _ _ _ _ _ hn ⟨hI, r', f1, f3⟩ kK kc ks ((k1_615 K1N.rf).2 _ d1).2)
    · refine lQ.ifT (cLg 1522 rfl) (decide_eq_true hk) ?_
      refine lQ.goto (cLg 1532 rfl) ?_
      exact lQ.sub (LLs (by rfl) (by rfl) (by rfl) (by rfl) (by rfl)) (k _ _ _ _ _ _ _ _ hn ⟨hI, r', f1, f3⟩ kK kc ks ((k1_615 K1N.rf).2 _ d1).2)
theorem lc_ask (hR : lRok R) (hJ : JAll R E) (hn : tOk ad) (hn8 : n ≤ 448) (hi : i + 7 ≤ n) (h : LV E ad b n f h1 o1 o y s A own t K N) (hK : K < 900) (hc : s.2.2.1 < 3800000000) (k : LK R E b n f h1 o1 o i s own t K N 20 113 Z) : lQ R E 1625 cd_L 1533 (LL ad b h1 o1 i) [] (cp y s A) Z := by
  obtain ⟨hI, r, f1, f3⟩ := h
  obtain ⟨kk, S, x, t', own', K', N', c1, d1, th, ov, r', kK, kc, ks⟩ := lwa_ask r (f (i + 1)) (f (i + 2)) (f (i + 3)) (by omega)
  refine lQ.loadN (cLg 1533 rfl) rfl ?_
  refine lQ.loadN (cLg 1534 rfl) rfl ?_
  refine lQ.loadI (cLg 1535 rfl) rfl ?_
  refine lQ.push (cLg 1536 rfl) ?_
  refine lQ.binI (cLg 1537 rfl) ?_
  refine lQ.ald hR (cLg 1538 rfl) (hI.scr hn8 1 (by omega)) ?_
  refine lQ.loadN (cLg 1539 rfl) rfl ?_
  refine lQ.loadI (cLg 1540 rfl) rfl ?_
  refine lQ.push (cLg 1541 rfl) ?_
  refine lQ.binI (cLg 1542 rfl) ?_
  refine lQ.ald hR (cLg 1543 rfl) (hI.scr hn8 2 (by omega)) ?_
  refine lQ.loadN (cLg 1544 rfl) rfl ?_
  refine lQ.loadI (cLg 1545 rfl) rfl ?_
  refine lQ.push (cLg 1546 rfl) ?_
  refine lQ.binI (cLg 1547 rfl) ?_
  refine lQ.ald hR (cLg 1548 rfl) (hI.scr hn8 3 (by omega)) ?_
  refine lQ.loadN (cLg 1549 rfl) rfl ?_
  refine lQ.callG (args := [.ref h1, .int (f (i + 1)), .int (f (i + 2)), .int (f (i + 3)), .ref o1]) (r := []) hR (cLg 1550 rfl) rfl rfl (Nat.le_of_ble_eq_true rfl) (Nat.le_of_ble_eq_true rfl) (cs_342 hR hJ hI.1 (w0 := some h1) (w4 := some o1) f1 f3 c1) ?_ (fun _ _ _ z => by cases z.1)
  rintro _ _ ⟨e_, y, A, hW, hX, rfl⟩
  cases e_
  have f1 := hX.1 _ _ f1
  have f3 := hX.1 _ _ f3
  have hI := hI.ext hW hX
  refine lQ.stI (cLg 1551 rfl) (lN2s rfl rfl) ?_
  refine lQ.loadN (cLg 1552 rfl) rfl ?_
  refine lQ.loadN (cLg 1553 rfl) rfl ?_
  refine lQ.loadI (cLg 1554 rfl) rfl ?_
  refine lQ.push (cLg 1555 rfl) ?_
  refine lQ.binI (cLg 1556 rfl) ?_
  refine lQ.ald hR (cLg 1557 rfl) (hI.scr hn8 1 (by omega)) ?_
  refine lQ.loadN (cLg 1558 rfl) rfl ?_
  refine lQ.loadI (cLg 1559 rfl) rfl ?_
  refine lQ.push (cLg 1560 rfl) ?_
  refine lQ.binI (cLg 1561 rfl) ?_
  refine lQ.ald hR (cLg 1562 rfl) (hI.scr hn8 2 (by omega)) ?_
  refine lQ.loadN (cLg 1563 rfl) rfl ?_
  refine lQ.loadI (cLg 1564 rfl) rfl ?_
  refine lQ.push (cLg 1565 rfl) ?_
  refine lQ.binI (cLg 1566 rfl) ?_
  refine lQ.ald hR (cLg 1567 rfl) (hI.scr hn8 3 (by omega)) ?_
  rw [hI.sw]
  refine lQ.callVI (F := fun z B => x = z ∧ B = tp ad t' (cp y S A)) (G := fun _ _ => False) (args := [.ref (adr ad 0), .int (f (i + 1)), .int (f (i + 2)), .int (f (i + 3))]) (r := []) hR (cLg 1568 rfl) rfl rfl (Nat.le_of_ble_eq_true rfl) (Nat.le_of_ble_eq_true rfl) rfl (tk_0 hn rfl) (ts_605 hR hn d1 (cI_mk ⟨rfl, rfl⟩)) ?_ (fun _ _ _ z => z.elim)
  rintro _ _ ⟨rfl, rfl⟩
  refine lQ.stI (cLg 1569 rfl) (lN2s rfl rfl) ?_
  refine lQ.loadN (cLg 1570 rfl) rfl ?_
  refine lQ.callVI (F := fun z B => t'.1 0 = z ∧ B = tp ad t' (cp y S A)) (G := fun _ _ => False) (args := [.ref (adr ad 0)]) (r := []) hR (cLg 1571 rfl) rfl rfl (Nat.le_of_ble_eq_true rfl) (Nat.le_of_ble_eq_true rfl) rfl (tk_0 hn rfl) (ts_556 hR hn (x := t'.1 0) rfl (cI_mk ⟨rfl, rfl⟩)) ?_ (fun _ _ _ z => z.elim)
  rintro _ _ ⟨rfl, rfl⟩
  rw [hI.mv SDa.rf t']
  have hI := hI.tw SDa.rf t'
  refine lQ.loadI (cLg 1572 rfl) rfl ?_
  refine lQ.cmpT (cLg 1573 rfl) (decide_eq_true th) ?_
  refine lQ.loadI (cLg 1576 rfl) rfl ?_
  by_cases hk : kk = 0
  · refine lQ.ifF (cLg 1577 rfl) (decide_eq_false (fun z => z hk)) ?_
    have hv := ov _ hk rfl
    have g3 := LV_out hI.1 f3 hv
    refine lQ.loadN (cLg 1578 rfl) rfl ?_
    refine lQ.push (cLg 1579 rfl) ?_
    refine lQ.ald hR (cLg 1580 rfl) g3 ?_
    refine lQ.loadI (cLg 1581 rfl) rfl ?_
    refine lQ.i2l (cLg 1582 rfl) ?_
    refine lQ.lcmp (cLg 1583 rfl) ?_
    refine lQ.ifT (cLg 1584 rfl) (decide_eq_true (lg_cmp_rf _)) ?_
    refine lQ.goto (cLg 1587 rfl) ?_
    exact lQ.sub (LLs (by rfl) (by rfl) (by rfl) (by rfl) (by rfl)) (k _ _ _ _ _ _ _ _ hn ⟨hI, r', f1, f3⟩ kK kc ks ((k1_605 K1N.rf).2 _ d1).2)
  · refine lQ.ifT (cLg 1577 rfl) (decide_eq_true hk) ?_
    refine lQ.goto (cLg 1587 rfl) ?_
    exact lQ.sub (LLs (by rfl) (by rfl) (by rfl) (by rfl) (by rfl)) (k _ _ _ _ _ _ _ _ hn ⟨hI, r', f1, f3⟩ kK kc ks ((k1_605 K1N.rf).2 _ d1).2)
end LC
