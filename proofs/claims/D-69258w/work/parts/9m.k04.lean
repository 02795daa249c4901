/-! the law's walk: cases -/
section LC
variable {R : lAR} {E : lE} {ad : List Nat} {b n : Nat} {f : Nat → Int32} {h1 o1 o i K N : Nat} {y : lY} {s : CS} {A : lMem} {own : Nat → Nat} {t : TS} {Z : lZ}
theorem lc_both (hR : lRok R) (hJ : JAll R E) (hn : tOk ad) (hn8 : n ≤ 448) (hi : i + 7 ≤ n) (h : LV E ad b n f h1 o1 o y s A own t K N) (hK : K < 900) (hc : s.2.2.1 < 3800000000) (k : LK R E b n f h1 o1 o i s own t K N 39 220 Z) : lQ R E 1625 cd_L 1588 (LL ad b h1 o1 i) [] (cp y s A) Z := by
  obtain ⟨hI, r, f1, f3⟩ := h
  obtain ⟨kk, S, x, t', own', K', N', c1, d1, th, ov, r', kK, kc, ks⟩ := lwa_both r (f (i + 1)) (f (i + 2)) (f (i + 3)) (f (i + 4)) (by omega)
  refine lQ.loadN (cLg 1588 rfl) rfl ?_
  refine lQ.loadN (cLg 1589 rfl) rfl ?_
  refine lQ.loadI (cLg 1590 rfl) rfl ?_
  refine lQ.push (cLg 1591 rfl) ?_
  refine lQ.binI (cLg 1592 rfl) ?_
  refine lQ.ald hR (cLg 1593 rfl) (hI.scr hn8 1 (by omega)) ?_
  refine lQ.loadN (cLg 1594 rfl) rfl ?_
  refine lQ.loadI (cLg 1595 rfl) rfl ?_
  refine lQ.push (cLg 1596 rfl) ?_
  refine lQ.binI (cLg 1597 rfl) ?_
  refine lQ.ald hR (cLg 1598 rfl) (hI.scr hn8 2 (by omega)) ?_
  refine lQ.loadN (cLg 1599 rfl) rfl ?_
  refine lQ.loadI (cLg 1600 rfl) rfl ?_
  refine lQ.push (cLg 1601 rfl) ?_
  refine lQ.binI (cLg 1602 rfl) ?_
  refine lQ.ald hR (cLg 1603 rfl) (hI.scr hn8 3 (by omega)) ?_
  refine lQ.loadN (cLg 1604 rfl) rfl ?_
  refine lQ.loadI (cLg 1605 rfl) rfl ?_
  refine lQ.push (cLg 1606 rfl) ?_
  refine lQ.binI (cLg 1607 rfl) ?_
  refine lQ.ald hR (cLg 1608 rfl) (hI.scr hn8 4 (by omega)) ?_
  refine lQ.loadN (cLg 1609 rfl) rfl ?_
  refine lQ.callG (args := [.ref h1, .int (f (i + 1)), .int (f (i + 2)), .int (f (i + 3)), .int (f (i + 4)), .ref o1]) (r := []) hR (cLg 1610 rfl) rfl rfl (Nat.le_of_ble_eq_true rfl) (Nat.le_of_ble_eq_true rfl) (cs_343 hR hJ hI.1 (w0 := some h1) (w5 := some o1) f1 f3 c1) ?_ (fun _ _ _ z => by cases z.1)
  rintro _ _ ⟨e_, y, A, hW, hX, rfl⟩
  cases e_
  have f1 := hX.1 _ _ f1
  have f3 := hX.1 _ _ f3
  have hI := hI.ext hW hX
  refine lQ.stI (cLg 1611 rfl) (lN2s rfl rfl) ?_
  refine lQ.loadN (cLg 1612 rfl) rfl ?_
  refine lQ.loadN (cLg 1613 rfl) rfl ?_
  refine lQ.loadI (cLg 1614 rfl) rfl ?_
  refine lQ.push (cLg 1615 rfl) ?_
  refine lQ.binI (cLg 1616 rfl) ?_
  refine lQ.ald hR (cLg 1617 rfl) (hI.scr hn8 1 (by omega)) ?_
  refine lQ.loadN (cLg 1618 rfl) rfl ?_
  refine lQ.loadI (cLg 1619 rfl) rfl ?_
  refine lQ.push (cLg 1620 rfl) ?_
  refine lQ.binI (cLg 1621 rfl) ?_
  refine lQ.ald hR (cLg 1622 rfl) (hI.scr hn8 2 (by omega)) ?_
  refine lQ.loadN (cLg 1623 rfl) rfl ?_
  refine lQ.loadI (cLg 1624 rfl) rfl ?_
  refine lQ.push (cLg 1625 rfl) ?_
  refine lQ.binI (cLg 1626 rfl) ?_
  refine lQ.ald hR (cLg 1627 rfl) (hI.scr hn8 3 (by omega)) ?_
  refine lQ.loadN (cLg 1628 rfl) rfl ?_
  refine lQ.loadI (cLg 1629 rfl) rfl ?_
  refine lQ.push (cLg 1630 rfl) ?_
  refine lQ.binI (cLg 1631 rfl) ?_
  refine lQ.ald hR (cLg 1632 rfl) (hI.scr hn8 4 (by omega)) ?_
  rw [hI.sw]
  refine lQ.callVI (F := fun z B => x = z ∧ B = tp ad t' (cp y S A)) (G := fun _ _ => False) (args := [.ref (adr ad 0), .int (f (i + 1)), .int (f (i + 2)), .int (f (i + 3)), .int (f (i + 4))]) (r := []) hR (cLg 1633 rfl) rfl rfl (Nat.le_of_ble_eq_true rfl) (Nat.le_of_ble_eq_true rfl) rfl (tk_0 hn rfl) (ts_614 hR hn d1 (cI_mk ⟨rfl, rfl⟩)) ?_ (fun _ _ _ z => z.elim)
  rintro _ _ ⟨rfl, rfl⟩
  refine lQ.stI (cLg 1634 rfl) (lN2s rfl rfl) ?_
  refine lQ.loadN (cLg 1635 rfl) rfl ?_
  refine lQ.callVI (F := fun z B => t'.1 0 = z ∧ B = tp ad t' (cp y S A)) (G := fun _ _ => False) (args := [.ref (adr ad 0)]) (r := []) hR (cLg 1636 rfl) rfl rfl (Nat.le_of_ble_eq_true rfl) (Nat.le_of_ble_eq_true rfl) rfl (tk_0 hn rfl) (ts_556 hR hn (x := t'.1 0) rfl (cI_mk ⟨rfl, rfl⟩)) ?_ (fun _ _ _ z => z.elim)
  rintro _ _ ⟨rfl, rfl⟩
  rw [hI.mv SDa.rf t']
  have hI := hI.tw SDa.rf t'
  refine lQ.loadI (cLg 1637 rfl) rfl ?_
  refine lQ.cmpT (cLg 1638 rfl) (decide_eq_true th) ?_
  refine lQ.loadI (cLg 1641 rfl) rfl ?_
  by_cases hk : kk = 0
  · refine lQ.ifF (cLg 1642 rfl) (decide_eq_false (fun z => z hk)) ?_
    have hv := ov _ hk rfl
    have g3 := LV_out hI.1 f3 hv
    refine lQ.loadN (cLg 1643 rfl) rfl ?_
    refine lQ.push (cLg 1644 rfl) ?_
    refine lQ.ald hR (cLg 1645 rfl) g3 ?_
    refine lQ.loadI (cLg 1646 rfl) rfl ?_
    refine lQ.i2l (cLg 1647 rfl) ?_
    refine lQ.lcmp (cLg 1648 rfl) ?_
    refine lQ.ifT (cLg 1649 rfl) (decide_eq_true (lg_cmp_rf _)) ?_
    refine lQ.goto (cLg 1652 rfl) ?_
    exact lQ.sub (LLs (by rfl) (by rfl) (by rfl) (by rfl) (by rfl)) (k _ _ _ _ _ _ _ _ hn ⟨hI, r', f1, f3⟩ kK kc ks ((k1_614 K1N.rf).2 _ d1).2)
  · refine lQ.ifT (cLg 1642 rfl) (decide_eq_true hk) ?_
    refine lQ.goto (cLg 1652 rfl) ?_
    exact lQ.sub (LLs (by rfl) (by rfl) (by rfl) (by rfl) (by rfl)) (k _ _ _ _ _ _ _ _ hn ⟨hI, r', f1, f3⟩ kK kc ks ((k1_614 K1N.rf).2 _ d1).2)
theorem lc_where (hR : lRok R) (hJ : JAll R E) (hn : tOk ad) (hn8 : n ≤ 448) (hi : i + 7 ≤ n) (h : LV E ad b n f h1 o1 o y s A own t K N) (hK : K < 900) (hc : s.2.2.1 < 3800000000) (k : LK R E b n f h1 o1 o i s own t K N 1 6 Z) : lQ R E 1625 cd_L 1653 (LL ad b h1 o1 i) [] (cp y s A) Z := by
  obtain ⟨hI, r, f1, f3⟩ := h
  obtain ⟨kk, S, x, t', own', K', N', c1, d1, th, ov, r', kK, kc, ks⟩ := lwa_where r (f (i + 1)) (f (i + 2))
  refine lQ.loadN (cLg 1653 rfl) rfl ?_
  refine lQ.loadN (cLg 1654 rfl) rfl ?_
  refine lQ.loadI (cLg 1655 rfl) rfl ?_
  refine lQ.push (cLg 1656 rfl) ?_
  refine lQ.binI (cLg 1657 rfl) ?_
  refine lQ.ald hR (cLg 1658 rfl) (hI.scr hn8 1 (by omega)) ?_
  refine lQ.loadN (cLg 1659 rfl) rfl ?_
  refine lQ.loadI (cLg 1660 rfl) rfl ?_
  refine lQ.push (cLg 1661 rfl) ?_
  refine lQ.binI (cLg 1662 rfl) ?_
  refine lQ.ald hR (cLg 1663 rfl) (hI.scr hn8 2 (by omega)) ?_
  refine lQ.loadN (cLg 1664 rfl) rfl ?_
  refine lQ.callG (args := [.ref h1, .int (f (i + 1)), .int (f (i + 2)), .ref o1]) (r := []) hR (cLg 1665 rfl) rfl rfl (Nat.le_of_ble_eq_true rfl) (Nat.le_of_ble_eq_true rfl) (cs_344 hR hJ hI.1 (w0 := some h1) (w3 := some o1) f1 f3 c1) ?_ (fun _ _ _ z => by cases z.1)
  rintro _ _ ⟨e_, y, A, hW, hX, rfl⟩
  cases e_
  have f1 := hX.1 _ _ f1
  have f3 := hX.1 _ _ f3
  have hI := hI.ext hW hX
  refine lQ.stI (cLg 1666 rfl) (lN2s rfl rfl) ?_
  refine lQ.loadN (cLg 1667 rfl) rfl ?_
  refine lQ.loadN (cLg 1668 rfl) rfl ?_
  refine lQ.loadI (cLg 1669 rfl) rfl ?_
  refine lQ.push (cLg 1670 rfl) ?_
  refine lQ.binI (cLg 1671 rfl) ?_
  refine lQ.ald hR (cLg 1672 rfl) (hI.scr hn8 1 (by omega)) ?_
  refine lQ.loadN (cLg 1673 rfl) rfl ?_
  refine lQ.loadI (cLg 1674 rfl) rfl ?_
  refine lQ.push (cLg 1675 rfl) ?_
  refine lQ.binI (cLg 1676 rfl) ?_
  refine lQ.ald hR (cLg 1677 rfl) (hI.scr hn8 2 (by omega)) ?_
  rw [hI.sw]
  refine lQ.callVI (F := fun z B => x = z ∧ B = tp ad t' (cp y S A)) (G := fun _ _ => False) (args := [.ref (adr ad 0), .int (f (i + 1)), .int (f (i + 2))]) (r := []) hR (cLg 1678 rfl) rfl rfl (Nat.le_of_ble_eq_true rfl) (Nat.le_of_ble_eq_true rfl) rfl (tk_0 hn rfl) (ts_616 hR hn d1 (cI_mk ⟨rfl, rfl⟩)) ?_ (fun _ _ _ z => z.elim)
  rintro _ _ ⟨rfl, rfl⟩
  refine lQ.stI (cLg 1679 rfl) (lN2s rfl rfl) ?_
  refine lQ.loadN (cLg 1680 rfl) rfl ?_
  refine lQ.callVI (F := fun z B => t'.1 0 = z ∧ B = tp ad t' (cp y S A)) (G := fun _ _ => False) (args := [.ref (adr ad 0)]) (r := []) hR (cLg 1681 rfl) rfl rfl (Nat.le_of_ble_eq_true rfl) (Nat.le_of_ble_eq_true rfl) rfl (tk_0 hn rfl) (ts_556 hR hn (x := t'.1 0) rfl (cI_mk ⟨rfl, rfl⟩)) ?_ (fun _ _ _ z => z.elim)
  rintro _ _ ⟨rfl, rfl⟩
  rw [hI.mv SDa.rf t']
  have hI := hI.tw SDa.rf t'
  refine lQ.loadI (cLg 1682 rfl) rfl ?_
  refine lQ.cmpT (cLg 1683 rfl) (decide_eq_true th) ?_
  refine lQ.loadI (cLg 1686 rfl) rfl ?_
  by_cases hk : kk = 0
  · refine lQ.ifF (cLg 1687 rfl) (decide_eq_false (fun z => z hk)) ?_
    have hv := ov _ hk rfl
    have g3 := LV_out hI.1 f3 hv
    refine lQ.loadN (cLg 1688 rfl) rfl ?_
    refine lQ.push (cLg 1689 rfl) ?_
    refine lQ.ald hR (cLg 1690 rfl) g3 ?_
    refine lQ.loadI (cLg 1691 rfl) rfl ?_
    refine lQ.i2l (cLg 1692 rfl) ?_
    refine lQ.lcmp (cLg 1693 rfl) ?_
    refine lQ.ifT (cLg 1694 rfl) (decide_eq_true (lg_cmp_rf _)) ?_
    refine lQ.goto (cLg 1697 rfl) ?_
    exact lQ.sub (LLs (by rfl) (by rfl) (by rfl) (by rfl) (by rfl)) (k _ _ _ _ _ _ _ _ hn ⟨hI, r', f1, f3⟩ kK kc ks ((k1_616 K1N.rf).2 _ d1).2)
  · refine lQ.ifT (cLg 1687 rfl) (decide_eq_true hk) ?_
    refine lQ.goto (cLg 1697 rfl) ?_
    exact lQ.sub (LLs (by rfl) (by rfl) (by rfl) (by rfl) (by rfl)) (k _ _ _ _ _ _ _ _ hn ⟨hI, r', f1, f3⟩ kK kc ks ((k1_616 K1N.rf).2 _ d1).2)
theorem lc_inside (hR : lRok R) (hJ : JAll R E) (hn : tOk ad) (hn8 : n ≤ 448) (hi : i + 7 ≤ n) (h : LV E ad b n f h1 o1 o y s A own t K N) (hK : K < 900) (hc : s.2.2.1 < 3800000000) (k : LK R E b n f h1 o1 o i s own t K N 1 6 Z) : lQ R E 1625 cd_L 1698 (LL ad b h1 o1 i) [] (cp y s A) Z := by
  obtain ⟨hI, r, f1, f3⟩ := h
  obtain ⟨kk, S, x, t', own', K', N', c1, d1, th, ov, r', kK, kc, ks⟩ := lwa_inside r (f (i + 1))
  refine lQ.loadN (cLg 1698 rfl) rfl ?_
  refine lQ.loadN (cLg 1699 rfl) rfl ?_
  refine lQ.loadI (cLg 1700 rfl) rfl ?_
  refine lQ.push (cLg 1701 rfl) ?_
  refine lQ.binI (cLg 1702 rfl) ?_
  refine lQ.ald hR (cLg 1703 rfl) (hI.scr hn8 1 (by omega)) ?_
  refine lQ.loadN (cLg 1704 rfl) rfl ?_
  refine lQ.callG (args := [.ref h1, .int (f (i + 1)), .ref o1]) (r := []) hR (cLg 1705 rfl) rfl rfl (Nat.le_of_ble_eq_true rfl) (Nat.le_of_ble_eq_true rfl) (cs_345 hR hJ hI.1 (w0 := some h1) (w2 := some o1) f1 f3 c1) ?_ (fun _ _ _ z => by cases z.1)
  rintro _ _ ⟨e_, y, A, hW, hX, rfl⟩
  cases e_
  have f1 := hX.1 _ _ f1
  have f3 := hX.1 _ _ f3
  have hI := hI.ext hW hX
  refine lQ.stI (cLg 1706 rfl) (lN2s rfl rfl) ?_
  refine lQ.loadN (cLg 1707 rfl) rfl ?_
  refine lQ.loadN (cLg 1708 rfl) rfl ?_
  refine lQ.loadI (cLg 1709 rfl) rfl ?_
  refine lQ.push (cLg 1710 rfl) ?_
  refine lQ.binI (cLg 1711 rfl) ?_
  refine lQ.ald hR (cLg 1712 rfl) (hI.scr hn8 1 (by omega)) ?_
  rw [hI.sw]
  refine lQ.callVI (F := fun z B => x = z ∧ B = tp ad t' (cp y S A)) (G := fun _ _ => False) (args := [.ref (adr ad 0), .int (f (i + 1))]) (r := []) hR (cLg 1713 rfl) rfl rfl (Nat.le_of_ble_eq_true rfl) (Nat.le_of_ble_eq_true rfl) rfl (tk_0 hn rfl) (ts_617 hR hn d1 (cI_mk ⟨rfl, rfl⟩)) ?_ (fun _ _ _ z => z.elim)
  rintro _ _ ⟨rfl, rfl⟩
  refine lQ.stI (cLg 1714 rfl) (lN2s rfl rfl) ?_
  refine lQ.loadN (cLg 1715 rfl) rfl ?_
  refine lQ.callVI (F := fun z B => t'.1 0 = z ∧ B = tp ad t' (cp y S A)) (G := fun _ _ => False) (args := [.ref (adr ad 0)]) (r := []) hR (cLg 1716 rfl) rfl rfl (Nat.le_of_ble_eq_true rfl) (Nat.le_of_ble_eq_true rfl) rfl (tk_0 hn rfl) (ts_556 hR hn (x := t'.1 0) rfl (cI_mk ⟨rfl, rfl⟩)) ?_ (fun _ _ _ z => z.elim)
  rintro _ _ ⟨rfl, rfl⟩
  rw [hI.mv SDa.rf t']
  have hI := hI.tw SDa.rf t'
  refine lQ.loadI (cLg 1717 rfl) rfl ?_
  refine lQ.cmpT (cLg 1718 rfl) (decide_eq_true th) ?_
  refine lQ.loadI (cLg 1721 rfl) rfl ?_
  by_cases hk : kk = 0
  · refine lQ.ifF (cLg 1722 rfl) (decide_eq_false (fun z => z hk)) ?_
    have hv := ov _ hk rfl
    have g3 := LV_out hI.1 f3 hv
    refine lQ.loadN (cLg 1723 rfl) rfl ?_
    refine lQ.push (cLg 1724 rfl) ?_
    refine lQ.ald hR (cLg 1725 rfl) g3 ?_
    refine lQ.loadI (cLg 1726 rfl) rfl ?_
    refine lQ.i2l (cLg 1727 rfl) ?_
    refine lQ.lcmp (cLg 1728 rfl) ?_
    refine lQ.ifT (cLg 1729 rfl) (decide_eq_true (lg_cmp_rf _)) ?_
    refine lQ.goto (cLg 1732 rfl) ?_
    exact lQ.sub (LLs (by rfl) (by rfl) (by rfl) (by rfl) (by rfl)) (k _ _ _ _ _ _ _ _ hn ⟨hI, r', f1, f3⟩ kK kc ks ((k1_617 K1N.rf).2 _ d1).2)
  · refine lQ.ifT (cLg 1722 rfl) (decide_eq_true hk) ?_
    refine lQ.goto (cLg 1732 rfl) ?_
    exact lQ.sub (LLs (by rfl) (by rfl) (by rfl) (by rfl) (by rfl)) (k _ _ _ _ _ _ _ _ hn ⟨hI, r', f1, f3⟩ kK kc ks ((k1_617 K1N.rf).2 _ d1).2)
theorem lc_against (hR : lRok R) (hJ : JAll R E) (hn : tOk ad) (hn8 : n ≤ 448) (hi : i + 7 ≤ n) (h : LV E ad b n f h1 o1 o y s A own t K N) (hK : K < 900) (hc : s.2.2.1 < 3800000000) (k : LK R E b n f h1 o1 o i s own t K N 1 6 Z) : lQ R E 1625 cd_L 1733 (LL ad b h1 o1 i) [] (cp y s A) Z := by
  obtain ⟨hI, r, f1, f3⟩ := h
  obtain ⟨kk, S, x, t', own', K', N', c1, d1, th, ov, r', kK, kc, ks⟩ := lwa_against r (f (i + 1)) (f (i + 2)) (by omega)
  refine lQ.loadN (cLg 1733 rfl) rfl ?_
  refine lQ.loadN (cLg 1734 rfl) rfl ?_
  refine lQ.loadI (cLg 1735 rfl) rfl ?_
  refine lQ.push (cLg 1736 rfl) ?_
  refine lQ.binI (cLg 1737 rfl) ?_
  refine lQ.ald hR (cLg 1738 rfl) (hI.scr hn8 1 (by omega)) ?_
  refine lQ.loadN (cLg 1739 rfl) rfl ?_
  refine lQ.loadI (cLg 1740 rfl) rfl ?_
  refine lQ.push (cLg 1741 rfl) ?_
  refine lQ.binI (cLg 1742 rfl) ?_
  refine lQ.ald hR (cLg 1743 rfl) (hI.scr hn8 2 (by omega)) ?_
  refine lQ.loadN (cLg 1744 rfl) rfl ?_
  refine lQ.callG (args := [.ref h1, .int (f (i + 1)), .int (f (i + 2)), .ref o1]) (r := []) hR (cLg 1745 rfl) rfl rfl (Nat.le_of_ble_eq_true rfl) (Nat.le_of_ble_eq_true rfl) (cs_346 hR hJ hI.1 (w0 := some h1) (w3 := some o1) f1 f3 c1) ?_ (fun _ _ _ z => by cases z.1)
  rintro _ _ ⟨e_, y, A, hW, hX, rfl⟩
  cases e_
  have f1 := hX.1 _ _ f1
  have f3 := hX.1 _ _ f3
  have hI := hI.ext hW hX
  refine lQ.stI (cLg 1746 rfl) (lN2s rfl rfl) ?_
  refine lQ.loadN (cLg 1747 rfl) rfl ?_
  refine lQ.loadN (cLg 1748 rfl) rfl ?_
  refine lQ.loadI (cLg 1749 rfl) rfl ?_
  refine lQ.push (cLg 1750 rfl) ?_
  refine lQ.binI (cLg 1751 rfl) ?_
  refine lQ.ald hR (cLg 1752 rfl) (hI.scr hn8 1 (by omega)) ?_
  refine lQ.loadN (cLg 1753 rfl) rfl ?_
  refine lQ.loadI (cLg 1754 rfl) rfl ?_
  refine lQ.push (cLg 1755 rfl) ?_
  refine lQ.binI (cLg 1756 rfl) ?_
  refine lQ.ald hR (cLg 1757 rfl) (hI.scr hn8 2 (by omega)) ?_
  rw [hI.sw]
  refine lQ.callVI (F := fun z B => x = z ∧ B = tp ad t' (cp y S A)) (G := fun _ _ => False) (args := [.ref (adr ad 0), .int (f (i + 1)), .int (f (i + 2))]) (r := []) hR (cLg 1758 rfl) rfl rfl (Nat.le_of_ble_eq_true rfl) (Nat.le_of_ble_eq_true rfl) rfl (tk_0 hn rfl) (ts_618 hR hn d1 (cI_mk ⟨rfl, rfl⟩)) ?_ (fun _ _ _ z => z.elim)
  rintro _ _ ⟨rfl, rfl⟩
  refine lQ.stI (cLg 1759 rfl) (lN2s rfl rfl) ?_
  refine lQ.loadN (cLg 1760 rfl) rfl ?_
  refine lQ.callVI (F := fun z B => t'.1 0 = z ∧ B = tp ad t' (cp y S A)) (G := fun _ _ => False) (args := [.ref (adr ad 0)]) (r := []) hR (cLg 1761 rfl) rfl rfl (Nat.le_of_ble_eq_true rfl) (Nat.le_of_ble_eq_true rfl) rfl (tk_0 hn rfl) (ts_556 hR hn (x := t'.1 0) rfl (cI_mk ⟨rfl, rfl⟩)) ?_ (fun _ _ _ z => z.elim)
  rintro _ _ ⟨rfl, rfl⟩
  rw [hI.mv SDa.rf t']
  have hI := hI.tw SDa.rf t'
  refine lQ.loadI (cLg 1762 rfl) rfl ?_
  refine lQ.cmpT (cLg 1763 rfl) (decide_eq_true th) ?_
  refine lQ.loadI (cLg 1766 rfl) rfl ?_
  by_cases hk : kk = 0
  · refine lQ.ifF (cLg 1767 rfl) (decide_eq_false (fun z => z hk)) ?_
    have hv := ov _ hk rfl
    have g3 := LV_out hI.1 f3 hv
    refine lQ.loadN (cLg 1768 rfl) rfl ?_
    refine lQ.push (cLg 1769 rfl) ?_
    refine lQ.ald hR (cLg 1770 rfl) g3 ?_
    refine lQ.loadI (cLg 1771 rfl) rfl ?_
    refine lQ.i2l (cLg 1772 rfl) ?_
    refine lQ.lcmp (cLg 1773 rfl) ?_
    refine lQ.ifT (cLg 1774 rfl) (decide_eq_true (lg_cmp_rf _)) ?_
    refine lQ.goto (cLg 1777 rfl) ?_
    exact lQ.sub (LLs (by rfl) (by rfl) (by rfl) (by rfl) (by rfl)) (k _ _ _ _ _ _ _ _ hn ⟨hI, r', f1, f3⟩ kK kc ks ((k1_618 K1N.rf).2 _ d1).2)
  · refine lQ.ifT (cLg 1767 rfl) (decide_eq_true hk) ?_
    refine lQ.goto (cLg 1777 rfl) ?_
    exact lQ.sub (LLs (by rfl) (by rfl) (by rfl) (by rfl) (by rfl)) (k _ _ _ _ _ _ _ _ hn ⟨hI, r', f1, f3⟩ kK kc ks ((k1_618 K1N.rf).2 _ d1).2)
theorem lc_unit (hR : lRok R) (hJ : JAll R E) (hn : tOk ad) (hn8 : n ≤ 448) (hi : i + 7 ≤ n) (h : LV E ad b n f h1 o1 o y s A own t K N) (hK : K < 900) (hc : s.2.2.1 < 3800000000) (k : LK R E b n f h1 o1 o i s own t K N 3 30 Z) : lQ R E 1625 cd_L 1778 (LL ad b h1 o1 i) [] (cp y s A) Z := by
  obtain ⟨hI, r, f1, f3⟩ := h
  obtain ⟨kk, S, x, t', own', K', N', c1, d1, th, ov, r', kK, kc, ks⟩ := lwa_unit r (f (i + 1))
  refine lQ.loadN (cLg 1778 rfl) rfl ?_
  refine lQ.loadN (cLg 1779 rfl) rfl ?_
  refine lQ.loadI (cLg 1780 rfl) rfl ?_
  refine lQ.push (cLg 1781 rfl) ?_
  refine lQ.binI (cLg 1782 rfl) ?_
  refine lQ.ald hR (cLg 1783 rfl) (hI.scr hn8 1 (by omega)) ?_
  refine lQ.loadN (cLg 1784 rfl) rfl ?_
  refine lQ.callG (args := [.ref h1, .int (f (i + 1)), .ref o1]) (r := []) hR (cLg 1785 rfl) rfl rfl (Nat.le_of_ble_eq_true rfl) (Nat.le_of_ble_eq_true rfl) (cs_347 hR hJ hI.1 (w0 := some h1) (w2 := some o1) f1 f3 c1) ?_ (fun _ _ _ z => by cases z.1)
  rintro _ _ ⟨e_, y, A, hW, hX, rfl⟩
  cases e_
  have f1 := hX.1 _ _ f1
  have f3 := hX.1 _ _ f3
  have hI := hI.ext hW hX
  refine lQ.stI (cLg 1786 rfl) (lN2s rfl rfl) ?_
  refine lQ.loadN (cLg 1787 rfl) rfl ?_
  refine lQ.loadN (cLg 1788 rfl) rfl ?_
  refine lQ.loadI (cLg 1789 rfl) rfl ?_
  refine lQ.push (cLg 1790 rfl) ?_
  refine lQ.binI (cLg 1791 rfl) ?_
  refine lQ.ald hR (cLg 1792 rfl) (hI.scr hn8 1 (by omega)) ?_
  rw [hI.sw]
  refine lQ.callVI (F := fun z B => x = z ∧ B = tp ad t' (cp y S A)) (G := fun _ _ => False) (args := [.ref (adr ad 0), .int (f (i + 1))]) (r := []) hR (cLg 1793 rfl) rfl rfl (Nat.le_of_ble_eq_true rfl) (Nat.le_of_ble_eq_true rfl) rfl (tk_0 hn rfl) (ts_619 hR hn d1 (cI_mk ⟨rfl, rfl⟩)) ?_ (fun _ _ _ z => z.elim)
  rintro _ _ ⟨rfl, rfl⟩
  refine lQ.stI (cLg 1794 rfl) (lN2s rfl rfl) ?_
  refine lQ.loadN (cLg 1795 rfl) rfl ?_
  refine lQ.callVI (F := fun z B => t'.1 0 = z ∧ B = tp ad t' (cp y S A)) (G := fun _ _ => False) (args := [.ref (adr ad 0)]) (r := []) hR (cLg 1796 rfl) rfl rfl (Nat.le_of_ble_eq_true rfl) (Nat.le_of_ble_eq_true rfl) rfl (tk_0 hn rfl) (ts_556 hR hn (x := t'.1 0) rfl (cI_mk ⟨rfl, rfl⟩)) ?_ (fun _ _ _ z => z.elim)
  rintro _ _ ⟨rfl, rfl⟩
  rw [hI.mv SDa.rf t']
  have hI := hI.tw SDa.rf t'
  refine lQ.loadI (cLg 1797 rfl) rfl ?_
  refine lQ.cmpT (cLg 1798 rfl) (decide_eq_true th) ?_
  refine lQ.loadI (cLg 1801 rfl) rfl ?_
  by_cases hk : kk = 0
  · refine lQ.ifF (cLg 1802 rfl) (decide_eq_false (fun z => z hk)) ?_
    have hv := ov _ hk rfl
    have g3 := LV_out hI.1 f3 hv
    refine lQ.loadN (cLg 1803 rfl) rfl ?_
    refine lQ.push (cLg 1804 rfl) ?_
    refine lQ.ald hR (cLg 1805 rfl) g3 ?_
    refine lQ.loadI (cLg 1806 rfl) rfl ?_
    refine lQ.i2l (cLg 1807 rfl) ?_
    refine lQ.lcmp (cLg 1808 rfl) ?_
    refine lQ.ifT (cLg 1809 rfl) (decide_eq_true (lg_cmp_rf _)) ?_
    refine lQ.goto (cLg 1812 rfl) ?_
    exact lQ.sub (LLs (by rfl) (by rfl) (by rfl) (by rfl) (by rfl)) (k _ _ _ _ _ _ _ _ hn ⟨hI, r', f1, f3⟩ kK kc ks ((k1_619 K1N.rf).2 _ d1).2)
  · refine lQ.ifT (cLg 1802 rfl) (decide_eq_true hk) ?_
    refine lQ.goto (cLg 1812 rfl) ?_
    exact lQ.sub (LLs (by rfl) (by rfl) (by rfl) (by rfl) (by rfl)) (k _ _ _ _ _ _ _ _ hn ⟨hI, r', f1, f3⟩ kK kc ks ((k1_619 K1N.rf).2 _ d1).2)
theorem lc_sentence (hR : lRok R) (hJ : JAll R E) (hn : tOk ad) (hn8 : n ≤ 448) (hi : i + 7 ≤ n) (h : LV E ad b n f h1 o1 o y s A own t K N) (hK : K < 900) (hc : s.2.2.1 < 3800000000) (k : LK R E b n f h1 o1 o i s own t K N 103 4006 Z) : lQ R E 1625 cd_L 1813 (LL ad b h1 o1 i) [] (cp y s A) Z := by
  obtain ⟨hI, r, f1, f3⟩ := h
  obtain ⟨kk, S, x, t', own', K', N', c1, d1, th, ov, r', kK, kc, ks⟩ := lwa_sentence r (f (i + 1)) (f (i + 2)) (f (i + 3)) (f (i + 4)) (f (i + 5))
  refine lQ.loadN (cLg 1813 rfl) rfl ?_
  refine lQ.loadN (cLg 1814 rfl) rfl ?_
  refine lQ.loadI (cLg 1815 rfl) rfl ?_
  refine lQ.push (cLg 1816 rfl) ?_
  refine lQ.binI (cLg 1817 rfl) ?_
  refine lQ.ald hR (cLg 1818 rfl) (hI.scr hn8 1 (by omega)) ?_
  refine lQ.loadN (cLg 1819 rfl) rfl ?_
  refine lQ.loadI (cLg 1820 rfl) rfl ?_
  refine lQ.push (cLg 1821 rfl) ?_
  refine lQ.binI (cLg 1822 rfl) ?_
  refine lQ.ald hR (cLg 1823 rfl) (hI.scr hn8 2 (by omega)) ?_
  refine lQ.loadN (cLg 1824 rfl) rfl ?_
  refine lQ.loadI (cLg 1825 rfl) rfl ?_
  refine lQ.push (cLg 1826 rfl) ?_
  refine lQ.binI (cLg 1827 rfl) ?_
  refine lQ.ald hR (cLg 1828 rfl) (hI.scr hn8 3 (by omega)) ?_
  refine lQ.loadN (cLg 1829 rfl) rfl ?_
  refine lQ.loadI (cLg 1830 rfl) rfl ?_
  refine lQ.push (cLg 1831 rfl) ?_
  refine lQ.binI (cLg 1832 rfl) ?_
  refine lQ.ald hR (cLg 1833 rfl) (hI.scr hn8 4 (by omega)) ?_
  refine lQ.loadN (cLg 1834 rfl) rfl ?_
  refine lQ.loadI (cLg 1835 rfl) rfl ?_
  refine lQ.push (cLg 1836 rfl) ?_
  refine lQ.binI (cLg 1837 rfl) ?_
  refine lQ.ald hR (cLg 1838 rfl) (hI.scr hn8 5 (by omega)) ?_
  refine lQ.loadN (cLg 1839 rfl) rfl ?_
  refine lQ.callG (args := [.ref h1, .int (f (i + 1)), .int (f (i + 2)), .int (f (i + 3)), .int (f (i + 4)), .int (f (i + 5)), .ref o1]) (r := []) hR (cLg 1840 rfl) rfl rfl (Nat.le_of_ble_eq_true rfl) (Nat.le_of_ble_eq_true rfl) (cs_348 hR hJ hI.1 (w0 := some h1) (w6 := some o1) f1 f3 c1) ?_ (fun _ _ _ z => by cases z.1)
  rintro _ _ ⟨e_, y, A, hW, hX, rfl⟩
  cases e_
  have f1 := hX.1 _ _ f1
  have f3 := hX.1 _ _ f3
  have hI := hI.ext hW hX
  refine lQ.stI (cLg 1841 rfl) (lN2s rfl rfl) ?_
  refine lQ.loadN (cLg 1842 rfl) rfl ?_
  refine lQ.loadN (cLg 1843 rfl) rfl ?_
  refine lQ.loadI (cLg 1844 rfl) rfl ?_
  refine lQ.push (cLg 1845 rfl) ?_
  refine lQ.binI (cLg 1846 rfl) ?_
  refine lQ.ald hR (cLg 1847 rfl) (hI.scr hn8 1 (by omega)) ?_
  refine lQ.loadN (cLg 1848 rfl) rfl ?_
  refine lQ.loadI (cLg 1849 rfl) rfl ?_
  refine lQ.push (cLg 1850 rfl) ?_
  refine lQ.binI (cLg 1851 rfl) ?_
  refine lQ.ald hR (cLg 1852 rfl) (hI.scr hn8 2 (by omega)) ?_
  refine lQ.loadN (cLg 1853 rfl) rfl ?_
  refine lQ.loadI (cLg 1854 rfl) rfl ?_
  refine lQ.push (cLg 1855 rfl) ?_
  refine lQ.binI (cLg 1856 rfl) ?_
  refine lQ.ald hR (cLg 1857 rfl) (hI.scr hn8 3 (by omega)) ?_
  refine lQ.loadN (cLg 1858 rfl) rfl ?_
  refine lQ.loadI (cLg 1859 rfl) rfl ?_
  refine lQ.push (cLg 1860 rfl) ?_
  refine lQ.binI (cLg 1861 rfl) ?_
  refine lQ.ald hR (cLg 1862 rfl) (hI.scr hn8 4 (by omega)) ?_
  refine lQ.loadN (cLg 1863 rfl) rfl ?_
  refine lQ.loadI (cLg 1864 rfl) rfl ?_
  refine lQ.push (cLg 1865 rfl) ?_
  refine lQ.binI (cLg 1866 rfl) ?_
  refine lQ.ald hR (cLg 1867 rfl) (hI.scr hn8 5 (by omega)) ?_
  rw [hI.sw]
  refine lQ.callVI (F := fun z B => x = z ∧ B = tp ad t' (cp y S A)) (G := fun _ _ => False) (args := [.ref (adr ad 0), .int (f (i + 1)), .int (f (i + 2)), .int (f (i + 3)), .int (f (i + 4)), .int (f (i + 5))]) (r := []) hR (cLg 1868 rfl) rfl rfl (Nat.le_of_ble_eq_true rfl) (Nat.le_of_ble_eq_true rfl) rfl (tk_0 hn rfl) (ts_620 hR hn d1 (cI_mk ⟨rfl, rfl⟩)) ?_ (fun _ _ _ z => z.elim)
  rintro _ _ ⟨rfl, rfl⟩
  refine lQ.stI (cLg 1869 rfl) (lN2s rfl rfl) ?_
  refine lQ.loadN (cLg 1870 rfl) rfl ?_
  refine lQ.callVI (F := fun z B => t'.1 0 = z ∧ B = tp ad t' (cp y S A)) (G := fun _ _ => False) (args := [.ref (adr ad 0)]) (r := []) hR (cLg 1871 rfl) rfl rfl (Nat.le_of_ble_eq_true rfl) (Nat.le_of_ble_eq_true rfl) rfl (tk_0 hn rfl) (ts_556 hR hn (x := t'.1 0) rfl (cI_mk ⟨rfl, rfl⟩)) ?_ (fun _ _ _ z => z.elim)
  rintro _ _ ⟨rfl, rfl⟩
  rw [hI.mv SDa.rf t']
  have hI := hI.tw SDa.rf t'
  refine lQ.loadI (cLg 1872 rfl) rfl ?_
  refine lQ.cmpT (cLg 1873 rfl) (decide_eq_true th) ?_
  refine lQ.loadI (cLg 1876 rfl) rfl ?_
  by_cases hk : kk = 0
  · refine lQ.ifF (cLg 1877 rfl) (decide_eq_false (fun z => z hk)) ?_
    have hv := ov _ hk rfl
    have g3 := LV_out hI.1 f3 hv
    refine lQ.loadN (cLg 1878 rfl) rfl ?_
    refine lQ.push (cLg 1879 rfl) ?_
    refine lQ.ald hR (cLg 1880 rfl) g3 ?_
    refine lQ.loadI (cLg 1881 rfl) rfl ?_
    refine lQ.i2l (cLg 1882 rfl) ?_
    refine lQ.lcmp (cLg 1883 rfl) ?_
    refine lQ.ifT (cLg 1884 rfl) (decide_eq_true (lg_cmp_rf _)) ?_
    refine lQ.goto (cLg 1887 rfl) ?_
    exact lQ.sub (LLs (by rfl) (by rfl) (by rfl) (by rfl) (by rfl)) (k _ _ _ _ _ _ _ _ hn ⟨hI, r', f1, f3⟩ kK kc ks ((k1_620 K1N.rf).2 _ d1).2)
  · refine lQ.ifT (cLg 1877 rfl) (decide_eq_true hk) ?_
    refine lQ.goto (cLg 1887 rfl) ?_
    exact lQ.sub (LLs (by rfl) (by rfl) (by rfl) (by rfl) (by rfl)) (k _ _ _ _ _ _ _ _ hn ⟨hI, r', f1, f3⟩ kK kc ks ((k1_620 K1N.rf).2 _ d1).2)
theorem lc_cutText (hR : lRok R) (hJ : JAll R E) (hn : tOk ad) (hn8 : n ≤ 448) (hi : i + 7 ≤ n) (h : LV E ad b n f h1 o1 o y s A own t K N) (hK : K < 900) (hc : s.2.2.1 < 3800000000) (k : LK R E b n f h1 o1 o i s own t K N 1 6 Z) : lQ R E 1625 cd_L 1888 (LL ad b h1 o1 i) [] (cp y s A) Z := by
  obtain ⟨hI, r, f1, f3⟩ := h
  obtain ⟨kk, S, x, t', own', K', N', c1, d1, th, ov, r', kK, kc, ks⟩ := lwa_cutText r (f (i + 1))
  refine lQ.loadN (cLg 1888 rfl) rfl ?_
  refine lQ.loadN (cLg 1889 rfl) rfl ?_
  refine lQ.loadI (cLg 1890 rfl) rfl ?_
  refine lQ.push (cLg 1891 rfl) ?_
  refine lQ.binI (cLg 1892 rfl) ?_
  refine lQ.ald hR (cLg 1893 rfl) (hI.scr hn8 1 (by omega)) ?_
  refine lQ.loadN (cLg 1894 rfl) rfl ?_
  refine lQ.callG (args := [.ref h1, .int (f (i + 1)), .ref o1]) (r := []) hR (cLg 1895 rfl) rfl rfl (Nat.le_of_ble_eq_true rfl) (Nat.le_of_ble_eq_true rfl) (cs_349 hR hJ hI.1 (w0 := some h1) (w2 := some o1) f1 f3 c1) ?_ (fun _ _ _ z => by cases z.1)
  rintro _ _ ⟨e_, y, A, hW, hX, rfl⟩
  cases e_
  have f1 := hX.1 _ _ f1
  have f3 := hX.1 _ _ f3
  have hI := hI.ext hW hX
  refine lQ.stI (cLg 1896 rfl) (lN2s rfl rfl) ?_
  refine lQ.loadN (cLg 1897 rfl) rfl ?_
  refine lQ.loadN (cLg 1898 rfl) rfl ?_
  refine lQ.loadI (cLg 1899 rfl) rfl ?_
  refine lQ.push (cLg 1900 rfl) ?_
  refine lQ.binI (cLg 1901 rfl) ?_
  refine lQ.ald hR (cLg 1902 rfl) (hI.scr hn8 1 (by omega)) ?_
  rw [hI.sw]
  refine lQ.callVI (F := fun z B => x = z ∧ B = tp ad t' (cp y S A)) (G := fun _ _ => False) (args := [.ref (adr ad 0), .int (f (i + 1))]) (r := []) hR (cLg 1903 rfl) rfl rfl (Nat.le_of_ble_eq_true rfl) (Nat.le_of_ble_eq_true rfl) rfl (tk_0 hn rfl) (ts_621 hR hn d1 (cI_mk ⟨rfl, rfl⟩)) ?_ (fun _ _ _ z => z.elim)
  rintro _ _ ⟨rfl, rfl⟩
  refine lQ.stI (cLg 1904 rfl) (lN2s rfl rfl) ?_
  refine lQ.loadN (cLg 1905 rfl) rfl ?_
  refine lQ.callVI (F := fun z B => t'.1 0 = z ∧ B = tp ad t' (cp y S A)) (G := fun _ _ => False) (args := [.ref (adr ad 0)]) (r := []) hR (cLg 1906 rfl) rfl rfl (Nat.le_of_ble_eq_true rfl) (Nat.le_of_ble_eq_true rfl) rfl (tk_0 hn rfl) (ts_556 hR hn (x := t'.1 0) rfl (cI_mk ⟨rfl, rfl⟩)) ?_ (fun _ _ _ z => z.elim)
  rintro _ _ ⟨rfl, rfl⟩
  rw [hI.mv SDa.rf t']
  have hI := hI.tw SDa.rf t'
  refine lQ.loadI (cLg 1907 rfl) rfl ?_
  refine lQ.cmpT (cLg 1908 rfl) (decide_eq_true th) ?_
  refine lQ.loadI (cLg 1911 rfl) rfl ?_
  by_cases hk : kk = 0
  · refine lQ.ifF (cLg 1912 rfl) (decide_eq_false (fun z => z hk)) ?_
    have hv := ov _ hk rfl
    have g3 := LV_out hI.1 f3 hv
    refine lQ.loadN (cLg 1913 rfl) rfl ?_
    refine lQ.push (cLg 1914 rfl) ?_
    refine lQ.ald hR (cLg 1915 rfl) g3 ?_
    refine lQ.loadI (cLg 1916 rfl) rfl ?_
    refine lQ.i2l (cLg 1917 rfl) ?_
    refine lQ.lcmp (cLg 1918 rfl) ?_
    refine lQ.ifT (cLg 1919 rfl) (decide_eq_true (lg_cmp_rf _)) ?_
    refine lQ.goto (cLg 1922 rfl) ?_
    exact lQ.sub (LLs (by rfl) (by rfl) (by rfl) (by rfl) (by rfl)) (k _ _ _ _ _ _ _ _ hn ⟨hI, r', f1, f3⟩ kK kc ks ((k1_621 K1N.rf).2 _ d1).2)
  · refine lQ.ifT (cLg 1912 rfl) (decide_eq_true hk) ?_
    refine lQ.goto (cLg 1922 rfl) ?_
    exact lQ.sub (LLs (by rfl) (by rfl) (by rfl) (by rfl) (by rfl)) (k _ _ _ _ _ _ _ _ hn ⟨hI, r', f1, f3⟩ kK kc ks ((k1_621 K1N.rf).2 _ d1).2)
theorem lc_matrix (hR : lRok R) (hJ : JAll R E) (hn : tOk ad) (hn8 : n ≤ 448) (hi : i + 7 ≤ n) (h : LV E ad b n f h1 o1 o y s A own t K N) (hK : K < 900) (hc : s.2.2.1 < 3800000000) (k : LK R E b n f h1 o1 o i s own t K N 4101 34606 Z) : lQ R E 1625 cd_L 1923 (LL ad b h1 o1 i) [] (cp y s A) Z := by
  obtain ⟨hI, r, f1, f3⟩ := h
  obtain ⟨kk, S, x, t', own', K', N', c1, d1, th, ov, r', kK, kc, ks⟩ := lwa_matrix r hc
  refine lQ.loadN (cLg 1923 rfl) rfl ?_
  refine lQ.loadN (cLg 1924 rfl) rfl ?_
  refine lQ.callG (args := [.ref h1, .ref o1]) (r := []) hR (cLg 1925 rfl) rfl rfl (Nat.le_of_ble_eq_true rfl) (Nat.le_of_ble_eq_true rfl) (cs_350 hR hJ hI.1 (w0 := some h1) (w1 := some o1) f1 f3 c1) ?_ (fun _ _ _ z => by cases z.1)
  rintro _ _ ⟨e_, y, A, hW, hX, rfl⟩
  cases e_
  have f1 := hX.1 _ _ f1
  have f3 := hX.1 _ _ f3
  have hI := hI.ext hW hX
  refine lQ.stI (cLg 1926 rfl) (lN2s rfl rfl) ?_
  refine lQ.loadN (cLg 1927 rfl) rfl ?_
  rw [hI.sw]
  refine lQ.callVI (F := fun z B => x = z ∧ B = tp ad t' (cp y S A)) (G := fun _ _ => False) (args := [.ref (adr ad 0)]) (r := []) hR (cLg 1928 rfl) rfl rfl (Nat.le_of_ble_eq_true rfl) (Nat.le_of_ble_eq_true rfl) rfl (tk_0 hn rfl) (ts_622 hR hn d1 (cI_mk ⟨rfl, rfl⟩)) ?_ (fun _ _ _ z => z.elim)
  rintro _ _ ⟨rfl, rfl⟩
  refine lQ.stI (cLg 1929 rfl) (lN2s rfl rfl) ?_
  refine lQ.loadN (cLg 1930 rfl) rfl ?_
  refine lQ.callVI (F := fun z B => t'.1 0 = z ∧ B = tp ad t' (cp y S A)) (G := fun _ _ => False) (args := [.ref (adr ad 0)]) (r := []) hR (cLg 1931 rfl) rfl rfl (Nat.le_of_ble_eq_true rfl) (Nat.le_of_ble_eq_true rfl) rfl (tk_0 hn rfl) (ts_556 hR hn (x := t'.1 0) rfl (cI_mk ⟨rfl, rfl⟩)) ?_ (fun _ _ _ z => z.elim)
  rintro _ _ ⟨rfl, rfl⟩
  rw [hI.mv SDa.rf t']
  have hI := hI.tw SDa.rf t'
  refine lQ.loadI (cLg 1932 rfl) rfl ?_
  refine lQ.cmpT (cLg 1933 rfl) (decide_eq_true th) ?_
  refine lQ.loadI (cLg 1936 rfl) rfl ?_
  by_cases hk : kk = 0
  · refine lQ.ifF (cLg 1937 rfl) (decide_eq_false (fun z => z hk)) ?_
    have hv := ov _ hk rfl
    have g3 := LV_out hI.1 f3 hv
    refine lQ.loadN (cLg 1938 rfl) rfl ?_
    refine lQ.push (cLg 1939 rfl) ?_
    refine lQ.ald hR (cLg 1940 rfl) g3 ?_
    refine lQ.loadI (cLg 1941 rfl) rfl ?_
    refine lQ.i2l (cLg 1942 rfl) ?_
    refine lQ.lcmp (cLg 1943 rfl) ?_
    refine lQ.ifT (cLg 1944 rfl) (decide_eq_true (lg_cmp_rf _)) ?_
    refine lQ.goto (cLg 1947 rfl) ?_
    exact lQ.sub (LLs (by rfl) (by rfl) (by rfl) (by rfl) (by rfl)) (k _ _ _ _ _ _ _ _ hn ⟨hI, r', f1, f3⟩ kK kc ks ((k1_622 K1N.rf).2 _ d1).2)
  · refine lQ.ifT (cLg 1937 rfl) (decide_eq_true hk) ?_
    refine lQ.goto (cLg 1947 rfl) ?_
    exact lQ.sub (LLs (by rfl) (by rfl) (by rfl) (by rfl) (by rfl)) (k _ _ _ _ _ _ _ _ hn ⟨hI, r', f1, f3⟩ kK kc ks ((k1_622 K1N.rf).2 _ d1).2)
theorem lc_signal (hR : lRok R) (hJ : JAll R E) (hn : tOk ad) (hn8 : n ≤ 448) (hi : i + 7 ≤ n) (h : LV E ad b n f h1 o1 o y s A own t K N) (hK : K < 900) (hc : s.2.2.1 < 3800000000) (k : LK R E b n f h1 o1 o i s own t K N 1 6 Z) : lQ R E 1625 cd_L 1948 (LL ad b h1 o1 i) [] (cp y s A) Z := by
  obtain ⟨hI, r, f1, f3⟩ := h
  obtain ⟨kk, S, x, t', own', K', N', c1, d1, th, ov, r', kK, kc, ks⟩ := lwa_signal r (f (i + 1)) (f (i + 2))
  refine lQ.loadN (cLg 1948 rfl) rfl ?_
  refine lQ.loadN (cLg 1949 rfl) rfl ?_
  refine lQ.loadI (cLg 1950 rfl) rfl ?_
  refine lQ.push (cLg 1951 rfl) ?_
  refine lQ.binI (cLg 1952 rfl) ?_
  refine lQ.ald hR (cLg 1953 rfl) (hI.scr hn8 1 (by omega)) ?_
  refine lQ.loadN (cLg 1954 rfl) rfl ?_
  refine lQ.loadI (cLg 1955 rfl) rfl ?_
  refine lQ.push (cLg 1956 rfl) ?_
  refine lQ.binI (cLg 1957 rfl) ?_
  refine lQ.ald hR (cLg 1958 rfl) (hI.scr hn8 2 (by omega)) ?_
  refine lQ.loadN (cLg 1959 rfl) rfl ?_
  refine lQ.callG (args := [.ref h1, .int (f (i + 1)), .int (f (i + 2)), .ref o1]) (r := []) hR (cLg 1960 rfl) rfl rfl (Nat.le_of_ble_eq_true rfl) (Nat.le_of_ble_eq_true rfl) (cs_351 hR hJ hI.1 (w0 := some h1) (w3 := some o1) f1 f3 c1) ?_ (fun _ _ _ z => by cases z.1)
  rintro _ _ ⟨e_, y, A, hW, hX, rfl⟩
  cases e_
  have f1 := hX.1 _ _ f1
  have f3 := hX.1 _ _ f3
  have hI := hI.ext hW hX
  refine lQ.stI (cLg 1961 rfl) (lN2s rfl rfl) ?_
  refine lQ.loadN (cLg 1962 rfl) rfl ?_
  refine lQ.loadN (cLg 1963 rfl) rfl ?_
  refine lQ.loadI (cLg 1964 rfl) rfl ?_
  refine lQ.push (cLg 1965 rfl) ?_
  refine lQ.binI (cLg 1966 rfl) ?_
  refine lQ.ald hR (cLg 1967 rfl) (hI.scr hn8 1 (by omega)) ?_
  refine lQ.loadN (cLg 1968 rfl) rfl ?_
  refine lQ.loadI (cLg 1969 rfl) rfl ?_
  refine lQ.push (cLg 1970 rfl) ?_
  refine lQ.binI (cLg 1971 rfl) ?_
  refine lQ.ald hR (cLg 1972 rfl) (hI.scr hn8 2 (by omega)) ?_
  rw [hI.sw]
  refine lQ.callVI (F := fun z B => x = z ∧ B = tp ad t' (cp y S A)) (G := fun _ _ => False) (args := [.ref (adr ad 0), .int (f (i + 1)), .int (f (i + 2))]) (r := []) hR (cLg 1973 rfl) rfl rfl (Nat.le_of_ble_eq_true rfl) (Nat.le_of_ble_eq_true rfl) rfl (tk_0 hn rfl) (ts_623 hR hn d1 (cI_mk ⟨rfl, rfl⟩)) ?_ (fun _ _ _ z => z.elim)
  rintro _ _ ⟨rfl, rfl⟩
  refine lQ.stI (cLg 1974 rfl) (lN2s rfl rfl) ?_
  refine lQ.loadN (cLg 1975 rfl) rfl ?_
  refine lQ.callVI (F := fun z B => t'.1 0 = z ∧ B = tp ad t' (cp y S A)) (G := fun _ _ => False) (args := [.ref (adr ad 0)]) (r := []) hR (cLg 1976 rfl) rfl rfl (Nat.le_of_ble_eq_true rfl) (Nat.le_of_ble_eq_true rfl) rfl (tk_0 hn rfl) (ts_556 hR hn (x := t'.1 0) rfl (cI_mk ⟨rfl, rfl⟩)) ?_ (fun _ _ _ z => z.elim)
  rintro _ _ ⟨rfl, rfl⟩
  rw [hI.mv SDa.rf t']
  have hI := hI.tw SDa.rf t'
  refine lQ.loadI (cLg 1977 rfl) rfl ?_
  refine lQ.cmpT (cLg 1978 rfl) (decide_eq_true th) ?_
  refine lQ.loadI (cLg 1981 rfl) rfl ?_
  by_cases hk : kk = 0
  · refine lQ.ifF (cLg 1982 rfl) (decide_eq_false (fun z => z hk)) ?_
    have hv := ov _ hk rfl
    have g3 := LV_out hI.1 f3 hv
    refine lQ.loadN (cLg 1983 rfl) rfl ?_
    refine lQ.push (cLg 1984 rfl) ?_
    refine lQ.ald hR (cLg 1985 rfl) g3 ?_
    refine lQ.loadI (cLg 1986 rfl) rfl ?_
    refine lQ.i2l (cLg 1987 rfl) ?_
    refine lQ.lcmp (cLg 1988 rfl) ?_
    refine lQ.ifT (cLg 1989 rfl) (decide_eq_true (lg_cmp_rf _)) ?_
    refine lQ.goto (cLg 1992 rfl) ?_
    exact lQ.sub (LLs (by rfl) (by rfl) (by rfl) (by rfl) (by rfl)) (k _ _ _ _ _ _ _ _ hn ⟨hI, r', f1, f3⟩ kK kc ks ((k1_623 K1N.rf).2 _ d1).2)
  · refine lQ.ifT (cLg 1982 rfl) (decide_eq_true hk) ?_
    refine lQ.goto (cLg 1992 rfl) ?_
    exact lQ.sub (LLs (by rfl) (by rfl) (by rfl) (by rfl) (by rfl)) (k _ _ _ _ _ _ _ _ hn ⟨hI, r', f1, f3⟩ kK kc ks ((k1_623 K1N.rf).2 _ d1).2)
theorem lc_fault (hR : lRok R) (hJ : JAll R E) (hn : tOk ad) (hn8 : n ≤ 448) (hi : i + 7 ≤ n) (h : LV E ad b n f h1 o1 o y s A own t K N) (hK : K < 900) (hc : s.2.2.1 < 3800000000) (k : LK R E b n f h1 o1 o i s own t K N 1 6 Z) : lQ R E 1625 cd_L 1993 (LL ad b h1 o1 i) [] (cp y s A) Z := by
  obtain ⟨hI, r, f1, f3⟩ := h
  by_cases hb : f (i + 2) = 0
  · obtain ⟨kk, S, x, t', own', K', N', c1, d1, th, ov, r', kK, kc, ks⟩ := lwa_fault r (f (i + 1)) 0 (Or.inl rfl)
    refine lQ.loadN (cLg 1993 rfl) rfl ?_
    refine lQ.loadN (cLg 1994 rfl) rfl ?_
    refine lQ.loadI (cLg 1995 rfl) rfl ?_
    refine lQ.push (cLg 1996 rfl) ?_
    refine lQ.binI (cLg 1997 rfl) ?_
    refine lQ.ald hR (cLg 1998 rfl) (hI.scr hn8 1 (by omega)) ?_
    refine lQ.loadN (cLg 1999 rfl) rfl ?_
    refine lQ.loadI (cLg 2000 rfl) rfl ?_
    refine lQ.push (cLg 2001 rfl) ?_
    refine lQ.binI (cLg 2002 rfl) ?_
    refine lQ.ald hR (cLg 2003 rfl) (hI.scr hn8 2 (by omega)) ?_
    refine lQ.ifT (cLg 2004 rfl) (decide_eq_true hb) ?_
    refine lQ.push (cLg 2007 rfl) ?_
    refine lQ.loadN (cLg 2008 rfl) rfl ?_
    refine lQ.callG (args := [.ref h1, .int (f (i + 1)), .int 0, .ref o1]) (r := []) hR (cLg 2009 rfl) rfl rfl (Nat.le_of_ble_eq_true rfl) (Nat.le_of_ble_eq_true rfl) (cs_352 hR hJ hI.1 (w0 := some h1) (w3 := some o1) f1 f3 c1) ?_ (fun _ _ _ z => by cases z.1)
    rintro _ _ ⟨e_, y, A, hW, hX, rfl⟩
    cases e_
    have f1 := hX.1 _ _ f1
    have f3 := hX.1 _ _ f3
    have hI := hI.ext hW hX
    refine lQ.stI (cLg 2010 rfl) (lN2s rfl rfl) ?_
    refine lQ.loadN (cLg 2011 rfl) rfl ?_
    refine lQ.loadN (cLg 2012 rfl) rfl ?_
    refine lQ.loadI (cLg 2013 rfl) rfl ?_
    refine lQ.push (cLg 2014 rfl) ?_
    refine lQ.binI (cLg 2015 rfl) ?_
    refine lQ.ald hR (cLg 2016 rfl) (hI.scr hn8 1 (by omega)) ?_
    refine lQ.loadN (cLg 2017 rfl) rfl ?_
    refine lQ.loadI (cLg 2018 rfl) rfl ?_
    refine lQ.push (cLg 2019 rfl) ?_
    refine lQ.binI (cLg 2020 rfl) ?_
    refine lQ.ald hR (cLg 2021 rfl) (hI.scr hn8 2 (by omega)) ?_
    refine lQ.ifT (cLg 2022 rfl) (decide_eq_true hb) ?_
    refine lQ.push (cLg 2025 rfl) ?_
    rw [hI.sw]
    refine lQ.callVI (F := fun z B => x = z ∧ B = tp ad t' (cp y S A)) (G := fun _ _ => False) (args := [.ref (adr ad 0), .int (f (i + 1)), .int 0]) (r := []) hR (cLg 2026 rfl) rfl rfl (Nat.le_of_ble_eq_true rfl) (Nat.le_of_ble_eq_true rfl) rfl (tk_0 hn rfl) (ts_624 hR hn d1 (cI_mk ⟨rfl, rfl⟩)) ?_ (fun _ _ _ z => z.elim)
    rintro _ _ ⟨rfl, rfl⟩
    refine lQ.stI (cLg 2027 rfl) (lN2s rfl rfl) ?_
    refine lQ.loadN (cLg 2028 rfl) rfl ?_
    refine lQ.callVI (F := fun z B => t'.1 0 = z ∧ B = tp ad t' (cp y S A)) (G := fun _ _ => False) (args := [.ref (adr ad 0)]) (r := []) hR (cLg 2029 rfl) rfl rfl (Nat.le_of_ble_eq_true rfl) (Nat.le_of_ble_eq_true rfl) rfl (tk_0 hn rfl) (ts_556 hR hn (x := t'.1 0) rfl (cI_mk ⟨rfl, rfl⟩)) ?_ (fun _ _ _ z => z.elim)
    rintro _ _ ⟨rfl, rfl⟩
    rw [hI.mv SDa.rf t']
    have hI := hI.tw SDa.rf t'
    refine lQ.loadI (cLg 2030 rfl) rfl ?_
    refine lQ.cmpT (cLg 2031 rfl) (decide_eq_true th) ?_
    refine lQ.loadI (cLg 2034 rfl) rfl ?_
    by_cases hk : kk = 0
    · refine lQ.ifF (cLg 2035 rfl) (decide_eq_false (fun z => z hk)) ?_
      have hv := ov _ hk rfl
      have g3 := LV_out hI.1 f3 hv
      refine lQ.loadN (cLg 2036 rfl) rfl ?_
      refine lQ.push (cLg 2037 rfl) ?_
      refine lQ.ald hR (cLg 2038 rfl) g3 ?_
      refine lQ.loadI (cLg 2039 rfl) rfl ?_
      by_cases hx : x = 0
      · refine lQ.ifT (cLg 2040 rfl) (decide_eq_true hx) ?_
        refine lQ.push (cLg 2043 rfl) ?_
        rw [if_pos hx]
        refine lQ.lcmp (cLg 2044 rfl) ?_
        refine lQ.ifT (cLg 2045 rfl) (decide_eq_true (lg_cmp_rf _)) ?_
        refine lQ.goto (cLg 2048 rfl) ?_
        exact lQ.sub (LLs (by rfl) (by rfl) (by rfl) (by rfl) (by rfl)) (k _ _ _ _ _ _ _ _ hn ⟨hI, r', f1, f3⟩ kK kc ks ((k1_624 K1N.rf).2 _ d1).2)
      · refine lQ.ifF (cLg 2040 rfl) (decide_eq_false hx) ?_
        refine lQ.push (cLg 2041 rfl) ?_
        refine lQ.goto (cLg 2042 rfl) ?_
        rw [if_neg hx]
        refine lQ.lcmp (cLg 2044 rfl) ?_
        refine lQ.ifT (cLg 2045 rfl) (decide_eq_true (lg_cmp_rf _)) ?_
        refine lQ.goto (cLg 2048 rfl) ?_
        exact lQ.sub (LLs (by rfl) (by rfl) (by rfl) (by rfl) (by rfl)) (k _ _ _ _ _ _ _ _ hn ⟨hI, r', f1, f3⟩ kK kc ks ((k1_624 K1N.rf).2 _ d1).2)
    · refine lQ.ifT (cLg 2035 rfl) (decide_eq_true hk) ?_
      refine lQ.goto (cLg 2048 rfl) ?_
      exact lQ.sub (LLs (by rfl) (by rfl) (by rfl) (by rfl) (by rfl)) (k _ _ _ _ _ _ _ _ hn ⟨hI, r', f1, f3⟩ kK kc ks ((k1_624 K1N.rf).2 _ d1).2)
  · obtain ⟨kk, S, x, t', own', K', N', c1, d1, th, ov, r', kK, kc, ks⟩ := lwa_fault r (f (i + 1)) 1 (Or.inr rfl)
    refine lQ.loadN (cLg 1993 rfl) rfl ?_
    refine lQ.loadN (cLg 1994 rfl) rfl ?_
    refine lQ.loadI (cLg 1995 rfl) rfl ?_
    refine lQ.push (cLg 1996 rfl) ?_
    refine lQ.binI (cLg 1997 rfl) ?_
    refine lQ.ald hR (cLg 1998 rfl) (hI.scr hn8 1 (by omega)) ?_
    refine lQ.loadN (cLg 1999 rfl) rfl ?_
    refine lQ.loadI (cLg 2000 rfl) rfl ?_
    refine lQ.push (cLg 2001 rfl) ?_
    refine lQ.binI (cLg 2002 rfl) ?_
    refine lQ.ald hR (cLg 2003 rfl) (hI.scr hn8 2 (by omega)) ?_
    refine lQ.ifF (cLg 2004 rfl) (decide_eq_false hb) ?_
    refine lQ.push (cLg 2005 rfl) ?_
    refine lQ.goto (cLg 2006 rfl) ?_
    refine lQ.loadN (cLg 2008 rfl) rfl ?_
    refine lQ.callG (args := [.ref h1, .int (f (i + 1)), .int 1, .ref o1]) (r := []) hR (cLg 2009 rfl) rfl rfl (Nat.le_of_ble_eq_true rfl) (Nat.le_of_ble_eq_true rfl) (cs_352 hR hJ hI.1 (w0 := some h1) (w3 := some o1) f1 f3 c1) ?_ (fun _ _ _ z => by cases z.1)
    rintro _ _ ⟨e_, y, A, hW, hX, rfl⟩
    cases e_
    have f1 := hX.1 _ _ f1
    have f3 := hX.1 _ _ f3
    have hI := hI.ext hW hX
    refine lQ.stI (cLg 2010 rfl) (lN2s rfl rfl) ?_
    refine lQ.loadN (cLg 2011 rfl) rfl ?_
    refine lQ.loadN (cLg 2012 rfl) rfl ?_
    refine lQ.loadI (cLg 2013 rfl) rfl ?_
    refine lQ.push (cLg 2014 rfl) ?_
    refine lQ.binI (cLg 2015 rfl) ?_
    refine lQ.ald hR (cLg 2016 rfl) (hI.scr hn8 1 (by omega)) ?_
    refine lQ.loadN (cLg 2017 rfl) rfl ?_
    refine lQ.loadI (cLg 2018 rfl) rfl ?_
    refine lQ.push (cLg 2019 rfl) ?_
    refine lQ.binI (cLg 2020 rfl) ?_
    refine lQ.ald hR (cLg 2021 rfl) (hI.scr hn8 2 (by omega)) ?_
    refine lQ.ifF (cLg 2022 rfl) (decide_eq_false hb) ?_
    refine lQ.push (cLg 2023 rfl) ?_
    refine lQ.goto (cLg 2024 rfl) ?_
    rw [hI.sw]
    refine lQ.callVI (F := fun z B => x = z ∧ B = tp ad t' (cp y S A)) (G := fun _ _ => False) (args := [.ref (adr ad 0), .int (f (i + 1)), .int 1]) (r := []) hR (cLg 2026 rfl) rfl rfl (Nat.le_of_ble_eq_true rfl) (Nat.le_of_ble_eq_true rfl) rfl (tk_0 hn rfl) (ts_624 hR hn d1 (cI_mk ⟨rfl, rfl⟩)) ?_ (fun _ _ _ z => z.elim)
    rintro _ _ ⟨rfl, rfl⟩
    refine lQ.stI (cLg 2027 rfl) (lN2s rfl rfl) ?_
    refine lQ.loadN (cLg 2028 rfl) rfl ?_
    refine lQ.callVI (F := fun z B => t'.1 0 = z ∧ B = tp ad t' (cp y S A)) (G := fun _ _ => False) (args := [.ref (adr ad 0)]) (r := []) hR (cLg 2029 rfl) rfl rfl (Nat.le_of_ble_eq_true rfl) (Nat.le_of_ble_eq_true rfl) rfl (tk_0 hn rfl) (ts_556 hR hn (x := t'.1 0) rfl (cI_mk ⟨rfl, rfl⟩)) ?_ (fun _ _ _ z => z.elim)
    rintro _ _ ⟨rfl, rfl⟩
    rw [hI.mv SDa.rf t']
    have hI := hI.tw SDa.rf t'
    refine lQ.loadI (cLg 2030 rfl) rfl ?_
    refine lQ.cmpT (cLg 2031 rfl) (decide_eq_true th) ?_
    refine lQ.loadI (cLg 2034 rfl) rfl ?_
    by_cases hk : kk = 0
    · refine lQ.ifF (cLg 2035 rfl) (decide_eq_false (fun z => z hk)) ?_
      have hv := ov _ hk rfl
      have g3 := LV_out hI.1 f3 hv
      refine lQ.loadN (cLg 2036 rfl) rfl ?_
      refine lQ.push (cLg 2037 rfl) ?_
      refine lQ.ald hR (cLg 2038 rfl) g3 ?_
      refine lQ.loadI (cLg 2039 rfl) rfl ?_
      by_cases hx : x = 0
      · refine lQ.ifT (cLg 2040 rfl) (decide_eq_true hx) ?_
        refine lQ.push (cLg 2043 rfl) ?_
        rw [if_pos hx]
        refine lQ.lcmp (cLg 2044 rfl) ?_
        refine lQ.ifT (cLg 2045 rfl) (decide_eq_true (lg_cmp_rf _)) ?_
        refine lQ.goto (cLg 2048 rfl) ?_
        exact lQ.sub (LLs (by rfl) (by rfl) (by rfl) (by rfl) (by rfl)) (k _ _ _ _ _ _ _ _ hn ⟨hI, r', f1, f3⟩ kK kc ks ((k1_624 K1N.rf).2 _ d1).2)
      · refine lQ.ifF (cLg 2040 rfl) (decide_eq_false hx) ?_
        refine lQ.push (cLg 2041 rfl) ?_
        refine lQ.goto (cLg 2042 rfl) ?_
        rw [if_neg hx]
        refine lQ.lcmp (cLg 2044 rfl) ?_
        refine lQ.ifT (cLg 2045 rfl) (decide_eq_true (lg_cmp_rf _)) ?_
        refine lQ.goto (cLg 2048 rfl) ?_
        exact lQ.sub (LLs (by rfl) (by rfl) (by rfl) (by rfl) (by rfl)) (k _ _ _ _ _ _ _ _ hn ⟨hI, r', f1, f3⟩ kK kc ks ((k1_624 K1N.rf).2 _ d1).2)
    · refine lQ.ifT (cLg 2035 rfl) (decide_eq_true hk) ?_
      refine lQ.goto (cLg 2048 rfl) ?_
      exact lQ.sub (LLs (by rfl) (by rfl) (by rfl) (by rfl) (by rfl)) (k _ _ _ _ _ _ _ _ hn ⟨hI, r', f1, f3⟩ kK kc ks ((k1_624 K1N.rf).2 _ d1).2)
theorem lc_disable (hR : lRok R) (hJ : JAll R E) (hn : tOk ad) (hn8 : n ≤ 448) (hi : i + 7 ≤ n) (h : LV E ad b n f h1 o1 o y s A own t K N) (hK : K < 900) (hc : s.2.2.1 < 3800000000) (k : LK R E b n f h1 o1 o i s own t K N 1 6 Z) : lQ R E 1625 cd_L 2049 (LL ad b h1 o1 i) [] (cp y s A) Z := by
  obtain ⟨hI, r, f1, f3⟩ := h
  obtain ⟨kk, S, x, t', own', K', N', c1, d1, th, ov, r', kK, kc, ks⟩ := lwa_disable r (f (i + 1)) (f (i + 2))
  refine lQ.loadN (cLg 2049 rfl) rfl ?_
  refine lQ.loadN (cLg 2050 rfl) rfl ?_
  refine lQ.loadI (cLg 2051 rfl) rfl ?_
  refine lQ.push (cLg 2052 rfl) ?_
  refine lQ.binI (cLg 2053 rfl) ?_
  refine lQ.ald hR (cLg 2054 rfl) (hI.scr hn8 1 (by omega)) ?_
  refine lQ.loadN (cLg 2055 rfl) rfl ?_
  refine lQ.loadI (cLg 2056 rfl) rfl ?_
  refine lQ.push (cLg 2057 rfl) ?_
  refine lQ.binI (cLg 2058 rfl) ?_
  refine lQ.ald hR (cLg 2059 rfl) (hI.scr hn8 2 (by omega)) ?_
  refine lQ.loadN (cLg 2060 rfl) rfl ?_
  refine lQ.callG (args := [.ref h1, .int (f (i + 1)), .int (f (i + 2)), .ref o1]) (r := []) hR (cLg 2061 rfl) rfl rfl (Nat.le_of_ble_eq_true rfl) (Nat.le_of_ble_eq_true rfl) (cs_353 hR hJ hI.1 (w0 := some h1) (w3 := some o1) f1 f3 c1) ?_ (fun _ _ _ z => by cases z.1)
  rintro _ _ ⟨e_, y, A, hW, hX, rfl⟩
  cases e_
  have f1 := hX.1 _ _ f1
  have f3 := hX.1 _ _ f3
  have hI := hI.ext hW hX
  refine lQ.stI (cLg 2062 rfl) (lN2s rfl rfl) ?_
  refine lQ.loadN (cLg 2063 rfl) rfl ?_
  refine lQ.loadN (cLg 2064 rfl) rfl ?_
  refine lQ.loadI (cLg 2065 rfl) rfl ?_
  refine lQ.push (cLg 2066 rfl) ?_
  refine lQ.binI (cLg 2067 rfl) ?_
  refine lQ.ald hR (cLg 2068 rfl) (hI.scr hn8 1 (by omega)) ?_
  refine lQ.loadN (cLg 2069 rfl) rfl ?_
  refine lQ.loadI (cLg 2070 rfl) rfl ?_
  refine lQ.push (cLg 2071 rfl) ?_
  refine lQ.binI (cLg 2072 rfl) ?_
  refine lQ.ald hR (cLg 2073 rfl) (hI.scr hn8 2 (by omega)) ?_
  rw [hI.sw]
  refine lQ.callVI (F := fun z B => x = z ∧ B = tp ad t' (cp y S A)) (G := fun _ _ => False) (args := [.ref (adr ad 0), .int (f (i + 1)), .int (f (i + 2))]) (r := []) hR (cLg 2074 rfl) rfl rfl (Nat.le_of_ble_eq_true rfl) (Nat.le_of_ble_eq_true rfl) rfl (tk_0 hn rfl) (ts_625 hR hn d1 (cI_mk ⟨rfl, rfl⟩)) ?_ (fun _ _ _ z => z.elim)
  rintro _ _ ⟨rfl, rfl⟩
  refine lQ.stI (cLg 2075 rfl) (lN2s rfl rfl) ?_
  refine lQ.loadN (cLg 2076 rfl) rfl ?_
  refine lQ.callVI (F := fun z B => t'.1 0 = z ∧ B = tp ad t' (cp y S A)) (G := fun _ _ => False) (args := [.ref (adr ad 0)]) (r := []) hR (cLg 2077 rfl) rfl rfl (Nat.le_of_ble_eq_true rfl) (Nat.le_of_ble_eq_true rfl) rfl (tk_0 hn rfl) (ts_556 hR hn (x := t'.1 0) rfl (cI_mk ⟨rfl, rfl⟩)) ?_ (fun _ _ _ z => z.elim)
  rintro _ _ ⟨rfl, rfl⟩
  rw [hI.mv SDa.rf t']
  have hI := hI.tw SDa.rf t'
  refine lQ.loadI (cLg 2078 rfl) rfl ?_
  refine lQ.cmpT (cLg 2079 rfl) (decide_eq_true th) ?_
  refine lQ.loadI (cLg 2082 rfl) rfl ?_
  by_cases hk : kk = 0
  · refine lQ.ifF (cLg 2083 rfl) (decide_eq_false (fun z => z hk)) ?_
    have hv := ov _ hk rfl
    have g3 := LV_out hI.1 f3 hv
    refine lQ.loadN (cLg 2084 rfl) rfl ?_
    refine lQ.push (cLg 2085 rfl) ?_
    refine lQ.ald hR (cLg 2086 rfl) g3 ?_
    refine lQ.loadI (cLg 2087 rfl) rfl ?_
    refine lQ.i2l (cLg 2088 rfl) ?_
    refine lQ.lcmp (cLg 2089 rfl) ?_
    refine lQ.ifT (cLg 2090 rfl) (decide_eq_true (lg_cmp_rf _)) ?_
    refine lQ.goto (cLg 2093 rfl) ?_
    exact lQ.sub (LLs (by rfl) (by rfl) (by rfl) (by rfl) (by rfl)) (k _ _ _ _ _ _ _ _ hn ⟨hI, r', f1, f3⟩ kK kc ks ((k1_625 K1N.rf).2 _ d1).2)
  · refine lQ.ifT (cLg 2083 rfl) (decide_eq_true hk) ?_
    refine lQ.goto (cLg 2093 rfl) ?_
    exact lQ.sub (LLs (by rfl) (by rfl) (by rfl) (by rfl) (by rfl)) (k _ _ _ _ _ _ _ _ hn ⟨hI, r', f1, f3⟩ kK kc ks ((k1_625 K1N.rf).2 _ d1).2)
theorem lc_attend (hR : lRok R) (hJ : JAll R E) (hn : tOk ad) (hn8 : n ≤ 448) (hi : i + 7 ≤ n) (h : LV E ad b n f h1 o1 o y s A own t K N) (hK : K < 900) (hc : s.2.2.1 < 3800000000) (k : LK R E b n f h1 o1 o i s own t K N 3 11 Z) : lQ R E 1625 cd_L 2094 (LL ad b h1 o1 i) [] (cp y s A) Z := by
  obtain ⟨hI, r, f1, f3⟩ := h
  obtain ⟨kk, S, x, t', own', K', N', c1, d1, th, ov, r', kK, kc, ks⟩ := lwa_attend r (f (i + 1)) hc
  refine lQ.loadN (cLg 2094 rfl) rfl ?_
  refine lQ.loadN (cLg 2095 rfl) rfl ?_
  refine lQ.loadI (cLg 2096 rfl) rfl ?_
  refine lQ.push (cLg 2097 rfl) ?_
  refine lQ.binI (cLg 2098 rfl) ?_
  refine lQ.ald hR (cLg 2099 rfl) (hI.scr hn8 1 (by omega)) ?_
  refine lQ.loadN (cLg 2100 rfl) rfl ?_
  refine lQ.callG (args := [.ref h1, .int (f (i + 1)), .ref o1]) (r := []) hR (cLg 2101 rfl) rfl rfl (Nat.le_of_ble_eq_true rfl) (Nat.le_of_ble_eq_true rfl) (cs_354 hR hJ hI.1 (w0 := some h1) (w2 := some o1) f1 f3 c1) ?_ (fun _ _ _ z => by cases z.1)
  rintro _ _ ⟨e_, y, A, hW, hX, rfl⟩
  cases e_
  have f1 := hX.1 _ _ f1
  have f3 := hX.1 _ _ f3
  have hI := hI.ext hW hX
  refine lQ.stI (cLg 2102 rfl) (lN2s rfl rfl) ?_
  refine lQ.loadN (cLg 2103 rfl) rfl ?_
  refine lQ.loadN (cLg 2104 rfl) rfl ?_
  refine lQ.loadI (cLg 2105 rfl) rfl ?_
  refine lQ.push (cLg 2106 rfl) ?_
  refine lQ.binI (cLg 2107 rfl) ?_
  refine lQ.ald hR (cLg 2108 rfl) (hI.scr hn8 1 (by omega)) ?_
  rw [hI.sw]
  refine lQ.callVI (F := fun z B => x = z ∧ B = tp ad t' (cp y S A)) (G := fun _ _ => False) (args := [.ref (adr ad 0), .int (f (i + 1))]) (r := []) hR (cLg 2109 rfl) rfl rfl (Nat.le_of_ble_eq_true rfl) (Nat.le_of_ble_eq_true rfl) rfl (tk_0 hn rfl) (ts_626 hR hn d1 (cI_mk ⟨rfl, rfl⟩)) ?_ (fun _ _ _ z => z.elim)
  rintro _ _ ⟨rfl, rfl⟩
  refine lQ.stI (cLg 2110 rfl) (lN2s rfl rfl) ?_
  refine lQ.loadN (cLg 2111 rfl) rfl ?_
  refine lQ.callVI (F := fun z B => t'.1 0 = z ∧ B = tp ad t' (cp y S A)) (G := fun _ _ => False) (args := [.ref (adr ad 0)]) (r := []) hR (cLg 2112 rfl) rfl rfl (Nat.le_of_ble_eq_true rfl) (Nat.le_of_ble_eq_true rfl) rfl (tk_0 hn rfl) (ts_556 hR hn (x := t'.1 0) rfl (cI_mk ⟨rfl, rfl⟩)) ?_ (fun _ _ _ z => z.elim)
  rintro _ _ ⟨rfl, rfl⟩
  rw [hI.mv SDa.rf t']
  have hI := hI.tw SDa.rf t'
  refine lQ.loadI (cLg 2113 rfl) rfl ?_
  refine lQ.cmpT (cLg 2114 rfl) (decide_eq_true th) ?_
  refine lQ.loadI (cLg 2117 rfl) rfl ?_
  by_cases hk : kk = 0
  · refine lQ.ifF (cLg 2118 rfl) (decide_eq_false (fun z => z hk)) ?_
    have hv := ov _ hk rfl
    have g3 := LV_out hI.1 f3 hv
    refine lQ.loadN (cLg 2119 rfl) rfl ?_
    refine lQ.push (cLg 2120 rfl) ?_
    refine lQ.ald hR (cLg 2121 rfl) g3 ?_
    refine lQ.loadI (cLg 2122 rfl) rfl ?_
    refine lQ.i2l (cLg 2123 rfl) ?_
    refine lQ.lcmp (cLg 2124 rfl) ?_
    refine lQ.ifT (cLg 2125 rfl) (decide_eq_true (lg_cmp_rf _)) ?_
    refine lQ.goto (cLg 2128 rfl) ?_
    exact lQ.sub (LLs (by rfl) (by rfl) (by rfl) (by rfl) (by rfl)) (k _ _ _ _ _ _ _ _ hn ⟨hI, r', f1, f3⟩ kK kc ks ((k1_626 K1N.rf).2 _ d1).2)
  · refine lQ.ifT (cLg 2118 rfl) (decide_eq_true hk) ?_
    refine lQ.goto (cLg 2128 rfl) ?_
    exact lQ.sub (LLs (by rfl) (by rfl) (by rfl) (by rfl) (by rfl)) (k _ _ _ _ _ _ _ _ hn ⟨hI, r', f1, f3⟩ kK kc ks ((k1_626 K1N.rf).2 _ d1).2)
theorem lc_reset (hR : lRok R) (hJ : JAll R E) (hn : tOk ad) (hn8 : n ≤ 448) (hi : i + 7 ≤ n) (h : LV E ad b n f h1 o1 o y s A own t K N) (hK : K < 900) (hc : s.2.2.1 < 3800000000) (k : LK R E b n f h1 o1 o i s own t K N 62 1530 Z) : lQ R E 1625 cd_L 2129 (LL ad b h1 o1 i) [] (cp y s A) Z := by
  obtain ⟨hI, r, f1, f3⟩ := h
  obtain ⟨kk, S, x, t', own', K', N', c1, d1, th, ov, r', kK, kc, ks⟩ := lwa_reset r 
  refine lQ.loadN (cLg 2129 rfl) rfl ?_
  refine lQ.loadN (cLg 2130 rfl) rfl ?_
  refine lQ.callG (args := [.ref h1, .ref o1]) (r := []) hR (cLg 2131 rfl) rfl rfl (Nat.le_of_ble_eq_true rfl) (Nat.le_of_ble_eq_true rfl) (cs_355 hR hJ hI.1 (w0 := some h1) (w1 := some o1) f1 f3 c1) ?_ (fun _ _ _ z => by cases z.1)
  rintro _ _ ⟨e_, y, A, hW, hX, rfl⟩
  cases e_
  have f1 := hX.1 _ _ f1
  have f3 := hX.1 _ _ f3
  have hI := hI.ext hW hX
  refine lQ.stI (cLg 2132 rfl) (lN2s rfl rfl) ?_
  refine lQ.loadN (cLg 2133 rfl) rfl ?_
  rw [hI.sw]
  refine lQ.callVI (F := fun z B => x = z ∧ B = tp ad t' (cp y S A)) (G := fun _ _ => False) (args := [.ref (adr ad 0)]) (r := []) hR (cLg 2134 rfl) rfl rfl (Nat.le_of_ble_eq_true rfl) (Nat.le_of_ble_eq_true rfl) rfl (tk_0 hn rfl) (ts_627 hR hn d1 (cI_mk ⟨rfl, rfl⟩)) ?_ (fun _ _ _ z => z.elim)
  rintro _ _ ⟨rfl, rfl⟩
  refine lQ.stI (cLg 2135 rfl) (lN2s rfl rfl) ?_
  refine lQ.loadN (cLg 2136 rfl) rfl ?_
  refine lQ.callVI (F := fun z B => t'.1 0 = z ∧ B = tp ad t' (cp y S A)) (G := fun _ _ => False) (args := [.ref (adr ad 0)]) (r := []) hR (cLg 2137 rfl) rfl rfl (Nat.le_of_ble_eq_true rfl) (Nat.le_of_ble_eq_true rfl) rfl (tk_0 hn rfl) (ts_556 hR hn (x := t'.1 0) rfl (cI_mk ⟨rfl, rfl⟩)) ?_ (fun _ _ _ z => z.elim)
  rintro _ _ ⟨rfl, rfl⟩
  rw [hI.mv SDa.rf t']
  have hI := hI.tw SDa.rf t'
  refine lQ.loadI (cLg 2138 rfl) rfl ?_
  refine lQ.cmpT (cLg 2139 rfl) (decide_eq_true th) ?_
  refine lQ.loadI (cLg 2142 rfl) rfl ?_
  by_cases hk : kk = 0
  · refine lQ.ifF (cLg 2143 rfl) (decide_eq_false (fun z => z hk)) ?_
    have hv := ov _ hk rfl
    have g3 := LV_out hI.1 f3 hv
    refine lQ.loadN (cLg 2144 rfl) rfl ?_
    refine lQ.push (cLg 2145 rfl) ?_
    refine lQ.ald hR (cLg 2146 rfl) g3 ?_
    refine lQ.loadI (cLg 2147 rfl) rfl ?_
    refine lQ.i2l (cLg 2148 rfl) ?_
    refine lQ.lcmp (cLg 2149 rfl) ?_
    refine lQ.ifT (cLg 2150 rfl) (decide_eq_true (lg_cmp_rf _)) ?_
    refine lQ.goto (cLg 2153 rfl) ?_
    exact lQ.sub (LLs (by rfl) (by rfl) (by rfl) (by rfl) (by rfl)) (k _ _ _ _ _ _ _ _ hn ⟨hI, r', f1, f3⟩ kK kc ks ((k1_627 K1N.rf).2 _ d1).2)
  · refine lQ.ifT (cLg 2143 rfl) (decide_eq_true hk) ?_
    refine lQ.goto (cLg 2153 rfl) ?_
    exact lQ.sub (LLs (by rfl) (by rfl) (by rfl) (by rfl) (by rfl)) (k _ _ _ _ _ _ _ _ hn ⟨hI, r', f1, f3⟩ kK kc ks ((k1_627 K1N.rf).2 _ d1).2)
theorem lc_act (hR : lRok R) (hJ : JAll R E) (hn : tOk ad) (hn8 : n ≤ 448) (hi : i + 7 ≤ n) (h : LV E ad b n f h1 o1 o y s A own t K N) (hK : K < 900) (hc : s.2.2.1 < 3800000000) (k : LK R E b n f h1 o1 o i s own t K N 2 7 Z) : lQ R E 1625 cd_L 2154 (LL ad b h1 o1 i) [] (cp y s A) Z := by
  obtain ⟨hI, r, f1, f3⟩ := h
  obtain ⟨kk, S, x, t', own', K', N', c1, d1, th, ov, r', kK, kc, ks⟩ := lwa_act r (f (i + 1)) (f (i + 2))
  refine lQ.loadN (cLg 2154 rfl) rfl ?_
  refine lQ.loadN (cLg 2155 rfl) rfl ?_
  refine lQ.loadI (cLg 2156 rfl) rfl ?_
  refine lQ.push (cLg 2157 rfl) ?_
  refine lQ.binI (cLg 2158 rfl) ?_
  refine lQ.ald hR (cLg 2159 rfl) (hI.scr hn8 1 (by omega)) ?_
  refine lQ.loadN (cLg 2160 rfl) rfl ?_
  refine lQ.loadI (cLg 2161 rfl) rfl ?_
  refine lQ.push (cLg 2162 rfl) ?_
  refine lQ.binI (cLg 2163 rfl) ?_
  refine lQ.ald hR (cLg 2164 rfl) (hI.scr hn8 2 (by omega)) ?_
  refine lQ.loadN (cLg 2165 rfl) rfl ?_
  refine lQ.callG (args := [.ref h1, .int (f (i + 1)), .int (f (i + 2)), .ref o1]) (r := []) hR (cLg 2166 rfl) rfl rfl (Nat.le_of_ble_eq_true rfl) (Nat.le_of_ble_eq_true rfl) (cs_356 hR hJ hI.1 (w0 := some h1) (w3 := some o1) f1 f3 c1) ?_ (fun _ _ _ z => by cases z.1)
  rintro _ _ ⟨e_, y, A, hW, hX, rfl⟩
  cases e_
  have f1 := hX.1 _ _ f1
  have f3 := hX.1 _ _ f3
  have hI := hI.ext hW hX
  refine lQ.stI (cLg 2167 rfl) (lN2s rfl rfl) ?_
  refine lQ.loadN (cLg 2168 rfl) rfl ?_
  refine lQ.loadN (cLg 2169 rfl) rfl ?_
  refine lQ.loadI (cLg 2170 rfl) rfl ?_
  refine lQ.push (cLg 2171 rfl) ?_
  refine lQ.binI (cLg 2172 rfl) ?_
  refine lQ.ald hR (cLg 2173 rfl) (hI.scr hn8 1 (by omega)) ?_
  refine lQ.loadN (cLg 2174 rfl) rfl ?_
  refine lQ.loadI (cLg 2175 rfl) rfl ?_
  refine lQ.push (cLg 2176 rfl) ?_
  refine lQ.binI (cLg 2177 rfl) ?_
  refine lQ.ald hR (cLg 2178 rfl) (hI.scr hn8 2 (by omega)) ?_
  rw [hI.sw]
  refine lQ.callVI (F := fun z B => x = z ∧ B = tp ad t' (cp y S A)) (G := fun _ _ => False) (args := [.ref (adr ad 0), .int (f (i + 1)), .int (f (i + 2))]) (r := []) hR (cLg 2179 rfl) rfl rfl (Nat.le_of_ble_eq_true rfl) (Nat.le_of_ble_eq_true rfl) rfl (tk_0 hn rfl) (ts_629 hR hn d1 (cI_mk ⟨rfl, rfl⟩)) ?_ (fun _ _ _ z => z.elim)
  rintro _ _ ⟨rfl, rfl⟩
  refine lQ.stI (cLg 2180 rfl) (lN2s rfl rfl) ?_
  refine lQ.loadN (cLg 2181 rfl) rfl ?_
  refine lQ.callVI (F := fun z B => t'.1 0 = z ∧ B = tp ad t' (cp y S A)) (G := fun _ _ => False) (args := [.ref (adr ad 0)]) (r := []) hR (cLg 2182 rfl) rfl rfl (Nat.le_of_ble_eq_true rfl) (Nat.le_of_ble_eq_true rfl) rfl (tk_0 hn rfl) (ts_556 hR hn (x := t'.1 0) rfl (cI_mk ⟨rfl, rfl⟩)) ?_ (fun _ _ _ z => z.elim)
  rintro _ _ ⟨rfl, rfl⟩
  rw [hI.mv SDa.rf t']
  have hI := hI.tw SDa.rf t'
  refine lQ.loadI (cLg 2183 rfl) rfl ?_
  refine lQ.cmpT (cLg 2184 rfl) (decide_eq_true th) ?_
  refine lQ.loadI (cLg 2187 rfl) rfl ?_
  by_cases hk : kk = 0
  · refine lQ.ifF (cLg 2188 rfl) (decide_eq_false (fun z => z hk)) ?_
    have hv := ov _ hk rfl
    have g3 := LV_out hI.1 f3 hv
    refine lQ.loadN (cLg 2189 rfl) rfl ?_
    refine lQ.push (cLg 2190 rfl) ?_
    refine lQ.ald hR (cLg 2191 rfl) g3 ?_
    refine lQ.loadI (cLg 2192 rfl) rfl ?_
    refine lQ.i2l (cLg 2193 rfl) ?_
    refine lQ.lcmp (cLg 2194 rfl) ?_
    refine lQ.ifT (cLg 2195 rfl) (decide_eq_true (lg_cmp_rf _)) ?_
    refine lQ.goto (cLg 2198 rfl) ?_
    exact lQ.sub (LLs (by rfl) (by rfl) (by rfl) (by rfl) (by rfl)) (k _ _ _ _ _ _ _ _ hn ⟨hI, r', f1, f3⟩ kK kc ks ((k1_629 K1N.rf).2 _ d1).2)
  · refine lQ.ifT (cLg 2188 rfl) (decide_eq_true hk) ?_
    refine lQ.goto (cLg 2198 rfl) ?_
    exact lQ.sub (LLs (by rfl) (by rfl) (by rfl) (by rfl) (by rfl)) (k _ _ _ _ _ _ _ _ hn ⟨hI, r', f1, f3⟩ kK kc ks ((k1_629 K1N.rf).2 _ d1).2)
theorem lc_zone (hR : lRok R) (hJ : JAll R E) (hn : tOk ad) (hn8 : n ≤ 448) (hi : i + 7 ≤ n) (h : LV E ad b n f h1 o1 o y s A own t K N) (hK : K < 900) (hc : s.2.2.1 < 3800000000) (k : LK R E b n f h1 o1 o i s own t K N 2 7 Z) : lQ R E 1625 cd_L 2199 (LL ad b h1 o1 i) [] (cp y s A) Z := by
  obtain ⟨hI, r, f1, f3⟩ := h
  obtain ⟨kk, S, x, t', own', K', N', c1, d1, th, ov, r', kK, kc, ks⟩ := lwa_zone r (f (i + 1)) (f (i + 2))
  refine lQ.loadN (cLg 2199 rfl) rfl ?_
  refine lQ.loadN (cLg 2200 rfl) rfl ?_
  refine lQ.loadI (cLg 2201 rfl) rfl ?_
  refine lQ.push (cLg 2202 rfl) ?_
  refine lQ.binI (cLg 2203 rfl) ?_
  refine lQ.ald hR (cLg 2204 rfl) (hI.scr hn8 1 (by omega)) ?_
  refine lQ.loadN (cLg 2205 rfl) rfl ?_
  refine lQ.loadI (cLg 2206 rfl) rfl ?_
  refine lQ.push (cLg 2207 rfl) ?_
  refine lQ.binI (cLg 2208 rfl) ?_
  refine lQ.ald hR (cLg 2209 rfl) (hI.scr hn8 2 (by omega)) ?_
  refine lQ.loadN (cLg 2210 rfl) rfl ?_
  refine lQ.callG (args := [.ref h1, .int (f (i + 1)), .int (f (i + 2)), .ref o1]) (r := []) hR (cLg 2211 rfl) rfl rfl (Nat.le_of_ble_eq_true rfl) (Nat.le_of_ble_eq_true rfl) (cs_357 hR hJ hI.1 (w0 := some h1) (w3 := some o1) f1 f3 c1) ?_ (fun _ _ _ z => by cases z.1)
  rintro _ _ ⟨e_, y, A, hW, hX, rfl⟩
  cases e_
  have f1 := hX.1 _ _ f1
  have f3 := hX.1 _ _ f3
  have hI := hI.ext hW hX
  refine lQ.stI (cLg 2212 rfl) (lN2s rfl rfl) ?_
  refine lQ.loadN (cLg 2213 rfl) rfl ?_
  refine lQ.loadN (cLg 2214 rfl) rfl ?_
  refine lQ.loadI (cLg 2215 rfl) rfl ?_
  refine lQ.push (cLg 2216 rfl) ?_
  refine lQ.binI (cLg 2217 rfl) ?_
  refine lQ.ald hR (cLg 2218 rfl) (hI.scr hn8 1 (by omega)) ?_
  refine lQ.loadN (cLg 2219 rfl) rfl ?_
  refine lQ.loadI (cLg 2220 rfl) rfl ?_
  refine lQ.push (cLg 2221 rfl) ?_
  refine lQ.binI (cLg 2222 rfl) ?_
  refine lQ.ald hR (cLg 2223 rfl) (hI.scr hn8 2 (by omega)) ?_
  rw [hI.sw]
  refine lQ.callVI (F := fun z B => x = z ∧ B = tp ad t' (cp y S A)) (G := fun _ _ => False) (args := [.ref (adr ad 0), .int (f (i + 1)), .int (f (i + 2))]) (r := []) hR (cLg 2224 rfl) rfl rfl (Nat.le_of_ble_eq_true rfl) (Nat.le_of_ble_eq_true rfl) rfl (tk_0 hn rfl) (ts_630 hR hn d1 (cI_mk ⟨rfl, rfl⟩)) ?_ (fun _ _ _ z => z.elim)
  rintro _ _ ⟨rfl, rfl⟩
  refine lQ.stI (cLg 2225 rfl) (lN2s rfl rfl) ?_
  refine lQ.loadN (cLg 2226 rfl) rfl ?_
  refine lQ.callVI (F := fun z B => t'.1 0 = z ∧ B = tp ad t' (cp y S A)) (G := fun _ _ => False) (args := [.ref (adr ad 0)]) (r := []) hR (cLg 2227 rfl) rfl rfl (Nat.le_of_ble_eq_true rfl) (Nat.le_of_ble_eq_true rfl) rfl (tk_0 hn rfl) (ts_556 hR hn (x := t'.1 0) rfl (cI_mk ⟨rfl, rfl⟩)) ?_ (fun _ _ _ z => z.elim)
  rintro _ _ ⟨rfl, rfl⟩
  rw [hI.mv SDa.rf t']
  have hI := hI.tw SDa.rf t'
  refine lQ.loadI (cLg 2228 rfl) rfl ?_
  refine lQ.cmpT (cLg 2229 rfl) (decide_eq_true th) ?_
  refine lQ.loadI (cLg 2232 rfl) rfl ?_
  by_cases hk : kk = 0
  · refine lQ.ifF (cLg 2233 rfl) (decide_eq_false (fun z => z hk)) ?_
    have hv := ov _ hk rfl
    have g3 := LV_out hI.1 f3 hv
    refine lQ.loadN (cLg 2234 rfl) rfl ?_
    refine lQ.push (cLg 2235 rfl) ?_
    refine lQ.ald hR (cLg 2236 rfl) g3 ?_
    refine lQ.loadI (cLg 2237 rfl) rfl ?_
    refine lQ.i2l (cLg 2238 rfl) ?_
    refine lQ.lcmp (cLg 2239 rfl) ?_
    refine lQ.ifT (cLg 2240 rfl) (decide_eq_true (lg_cmp_rf _)) ?_
    refine lQ.goto (cLg 2243 rfl) ?_
    exact lQ.sub (LLs (by rfl) (by rfl) (by rfl) (by rfl) (by rfl)) (k _ _ _ _ _ _ _ _ hn ⟨hI, r', f1, f3⟩ kK kc ks ((k1_630 K1N.rf).2 _ d1).2)
  · refine lQ.ifT (cLg 2233 rfl) (decide_eq_true hk) ?_
    refine lQ.goto (cLg 2243 rfl) ?_
    exact lQ.sub (LLs (by rfl) (by rfl) (by rfl) (by rfl) (by rfl)) (k _ _ _ _ _ _ _ _ hn ⟨hI, r', f1, f3⟩ kK kc ks ((k1_630 K1N.rf).2 _ d1).2)
theorem lc_event (hR : lRok R) (hJ : JAll R E) (hn : tOk ad) (hn8 : n ≤ 448) (hi : i + 7 ≤ n) (h : LV E ad b n f h1 o1 o y s A own t K N) (hK : K < 900) (hc : s.2.2.1 < 3800000000) (k : LK R E b n f h1 o1 o i s own t K N 1 6 Z) : lQ R E 1625 cd_L 2244 (LL ad b h1 o1 i) [] (cp y s A) Z := by
  obtain ⟨hI, r, f1, f3⟩ := h
  obtain ⟨kk, S, x, t', own', K', N', c1, d1, th, ov, r', kK, kc, ks⟩ := lwa_event r (f (i + 1)) (f (i + 2))
  refine lQ.loadN (cLg 2244 rfl) rfl ?_
  refine lQ.loadN (cLg 2245 rfl) rfl ?_
  refine lQ.loadI (cLg 2246 rfl) rfl ?_
  refine lQ.push (cLg 2247 rfl) ?_
  refine lQ.binI (cLg 2248 rfl) ?_
  refine lQ.ald hR (cLg 2249 rfl) (hI.scr hn8 1 (by omega)) ?_
  refine lQ.loadN (cLg 2250 rfl) rfl ?_
  refine lQ.loadI (cLg 2251 rfl) rfl ?_
  refine lQ.push (cLg 2252 rfl) ?_
  refine lQ.binI (cLg 2253 rfl) ?_
  refine lQ.ald hR (cLg 2254 rfl) (hI.scr hn8 2 (by omega)) ?_
  refine lQ.loadN (cLg 2255 rfl) rfl ?_
  refine lQ.callG (args := [.ref h1, .int (f (i + 1)), .int (f (i + 2)), .ref o1]) (r := []) hR (cLg 2256 rfl) rfl rfl (Nat.le_of_ble_eq_true rfl) (Nat.le_of_ble_eq_true rfl) (cs_358 hR hJ hI.1 (w0 := some h1) (w3 := some o1) f1 f3 c1) ?_ (fun _ _ _ z => by cases z.1)
  rintro _ _ ⟨e_, y, A, hW, hX, rfl⟩
  cases e_
  have f1 := hX.1 _ _ f1
  have f3 := hX.1 _ _ f3
  have hI := hI.ext hW hX
  refine lQ.stI (cLg 2257 rfl) (lN2s rfl rfl) ?_
  refine lQ.loadN (cLg 2258 rfl) rfl ?_
  refine lQ.loadN (cLg 2259 rfl) rfl ?_
  refine lQ.loadI (cLg 2260 rfl) rfl ?_
  refine lQ.push (cLg 2261 rfl) ?_
  refine lQ.binI (cLg 2262 rfl) ?_
  refine lQ.ald hR (cLg 2263 rfl) (hI.scr hn8 1 (by omega)) ?_
  refine lQ.loadN (cLg 2264 rfl) rfl ?_
  refine lQ.loadI (cLg 2265 rfl) rfl ?_
  refine lQ.push (cLg 2266 rfl) ?_
  refine lQ.binI (cLg 2267 rfl) ?_
  refine lQ.ald hR (cLg 2268 rfl) (hI.scr hn8 2 (by omega)) ?_
  rw [hI.sw]
  refine lQ.callVI (F := fun z B => x = z ∧ B = tp ad t' (cp y S A)) (G := fun _ _ => False) (args := [.ref (adr ad 0), .int (f (i + 1)), .int (f (i + 2))]) (r := []) hR (cLg 2269 rfl) rfl rfl (Nat.le_of_ble_eq_true rfl) (Nat.le_of_ble_eq_true rfl) rfl (tk_0 hn rfl) (ts_631 hR hn d1 (cI_mk ⟨rfl, rfl⟩)) ?_ (fun _ _ _ z => z.elim)
  rintro _ _ ⟨rfl, rfl⟩
  refine lQ.stI (cLg 2270 rfl) (lN2s rfl rfl) ?_
  refine lQ.loadN (cLg 2271 rfl) rfl ?_
  refine lQ.callVI (F := fun z B => t'.1 0 = z ∧ B = tp ad t' (cp y S A)) (G := fun _ _ => False) (args := [.ref (adr ad 0)]) (r := []) hR (cLg 2272 rfl) rfl rfl (Nat.le_of_ble_eq_true rfl) (Nat.le_of_ble_eq_true rfl) rfl (tk_0 hn rfl) (ts_556 hR hn (x := t'.1 0) rfl (cI_mk ⟨rfl, rfl⟩)) ?_ (fun _ _ _ z => z.elim)
  rintro _ _ ⟨rfl, rfl⟩
  rw [hI.mv SDa.rf t']
  have hI := hI.tw SDa.rf t'
  refine lQ.loadI (cLg 2273 rfl) rfl ?_
  refine lQ.cmpT (cLg 2274 rfl) (decide_eq_true th) ?_
  refine lQ.loadI (cLg 2277 rfl) rfl ?_
  by_cases hk : kk = 0
  · refine lQ.ifF (cLg 2278 rfl) (decide_eq_false (fun z => z hk)) ?_
    have hv := ov _ hk rfl
    have g3 := LV_out hI.1 f3 hv
    refine lQ.loadN (cLg 2279 rfl) rfl ?_
    refine lQ.push (cLg 2280 rfl) ?_
    refine lQ.ald hR (cLg 2281 rfl) g3 ?_
    refine lQ.loadI (cLg 2282 rfl) rfl ?_
    refine lQ.i2l (cLg 2283 rfl) ?_
    refine lQ.lcmp (cLg 2284 rfl) ?_
    refine lQ.ifT (cLg 2285 rfl) (decide_eq_true (lg_cmp_rf _)) ?_
    refine lQ.goto (cLg 2288 rfl) ?_
    exact lQ.sub (LLs (by rfl) (by rfl) (by rfl) (by rfl) (by rfl)) (k _ _ _ _ _ _ _ _ hn ⟨hI, r', f1, f3⟩ kK kc ks ((k1_631 K1N.rf).2 _ d1).2)
  · refine lQ.ifT (cLg 2278 rfl) (decide_eq_true hk) ?_
    refine lQ.goto (cLg 2288 rfl) ?_
    exact lQ.sub (LLs (by rfl) (by rfl) (by rfl) (by rfl) (by rfl)) (k _ _ _ _ _ _ _ _ hn ⟨hI, r', f1, f3⟩ kK kc ks ((k1_631 K1N.rf).2 _ d1).2)
end LC
