set_option maxRecDepth 100000
def raTab : List (Nat × Nat) := [(6, 0), (6, 3), (6, 4), (6, 8), (6, 11), (6, 12), (6, 13), (6, 14), (6, 19), (10, 19), (6, 20), (11, 20), (6, 22), (6, 23), (6, 25), (6, 26), (6, 28), (6, 29), (6, 31), (6, 33), (6, 34), (6, 35), (6, 37), (6, 38), (6, 39), (6, 42), (6, 45), (6, 46), (6, 47), (6, 48), (6, 49), (6, 50), (6, 51), (6, 52), (6, 53), (6, 54), (6, 55), (6, 56), (6, 57), (6, 58), (6, 59), (6, 60), (6, 61), (6, 62), (6, 63), (6, 64), (6, 65), (7, 65), (6, 66), (6, 67), (6, 68), (6, 69), (6, 70), (6, 71), (6, 72), (6, 73), (6, 74), (6, 75), (6, 76), (6, 77), (6, 78), (6, 79), (6, 80), (6, 81), (6, 82), (6, 83), (6, 84), (6, 85), (6, 86), (6, 87), (6, 88), (6, 89), (6, 90), (6, 91), (6, 92), (6, 93), (6, 94), (8, 94), (6, 95), (6, 96), (6, 97), (6, 98), (6, 99), (6, 100), (6, 102), (9, 102), (6, 103), (9, 103), (6, 104), (9, 104), (6, 105), (9, 105), (6, 106), (9, 106), (6, 107), (9, 107), (6, 108), (9, 108), (6, 109), (9, 109), (6, 110), (9, 110), (6, 111), (9, 111), (6, 112), (9, 112), (6, 113), (9, 113), (6, 114), (9, 114), (6, 115), (9, 115), (6, 116), (9, 116), (6, 117), (9, 117), (6, 118), (9, 118), (6, 119), (9, 119), (6, 120), (9, 120), (6, 121), (9, 121), (6, 122), (6, 123), (9, 123), (6, 124), (9, 124), (6, 125), (9, 125), (6, 126), (9, 126), (6, 127), (9, 127), (6, 128), (9, 128), (6, 129), (9, 129), (6, 130), (6, 131), (6, 132), (6, 133)]
def fillT1 : List (Nat × Nat) := [(11, 1), (12, 1), (33, 3), (69, 1), (75, 1), (88, 1)]
def fillT2 : List (Nat × Nat) := [(11, 4), (12, 4), (33, 0), (69, 4), (75, 4), (88, 4)]
def lPrims : List (Nat × FieldType) := [(0, .int), (1, .long), (2, .byte), (3, .boolean), (4, .char), (5, .short)]
/-! java/util/AbstractCollection.<init>()V -/
def cd_0_0 : List lI := [aP (pLoadA 0 1), fObj 2, fRetV]
def cd_0 : List lI := cd_0_0
/-! java/util/AbstractCollection.toArray()[Ljava/lang/Object; -/
def cd_1_0 : List lI := [aP (pLoadA 0 1), fCallV hdOut 0 [(4, 28), (13, 81), (31, 185), (34, 192), (37, 210)] 2, aM (fNewa 6 .null 3), aP (pStA 1 4), aP (pLoadA 0 5), fCallV hdOut 0 [(4, 30), (13, 82), (31, 186), (34, 193), (37, 211)] 6, aP (pStA 2 7), aP (pPush (.int 0) 8), aP (pStI 3 9), aP (pLoadI 3 10), aP (pLoadA 1 11), aM (fLen 12), aP (pCmp fc_ge 27 13), aP (pLoadA 2 14), fCallV hdOut 0 [(14, 90), (25, 170), (26, 173), (28, 176), (29, 176)] 15, aP (pIf fz_ne 20 16), aP (pLoadA 1 17), aP (pLoadI 3 18), fCall hdOut 2 56 19, fRetA, aP (pLoadA 1 21), aP (pLoadI 3 22), aP (pLoadA 2 23), fCallV hdOut 0 [(14, 91), (25, 171), (26, 174), (28, 179), (29, 182)] 24, aM (fRst raTab 25), aP (pInc 3 1 26), aP (pGoto 9), aP (pLoadA 2 28), fCallV hdOut 0 [(14, 90), (25, 170), (26, 173), (28, 176), (29, 176)] 29, aP (pIf fz_eq 34 30), aP (pLoadA 1 31), aP (pLoadA 2 32), fCall hdOut 2 2 33, aP (pGoto 35), aP (pLoadA 1 35), fRetA]
def cd_1 : List lI := cd_1_0
/-! java/util/AbstractCollection.finishToArray([Ljava/lang/Object;Ljava/util/Iterator;)[Ljava/lang/Object; -/
def cd_2_0 : List lI := [aP (pLoadA 0 1), aM (fLen 2), aP (pStI 2 3), aP (pLoadI 2 4), aP (pStI 3 5), aP (pLoadA 1 6), fCallV hdOut 0 [(14, 90), (25, 170), (26, 173), (28, 176), (29, 176)] 7, aP (pIf fz_eq 31 8), aP (pLoadI 3 9), aP (pLoadI 2 10), aP (pCmp fc_ne 24 11), aP (pLoadI 2 12), aP (pPush (.int 1) 13), aP (pLoadI 2 14), aP (pPush (.int 1) 15), aP (pBinI (fun x y => x >>> (y &&& 31)) 16), aP (pPush (.int 1) 17), aP (pBinI (· + ·) 18), fCall hdOut 3 36 19, aP (pStI 2 20), aP (pLoadA 0 21), aP (pLoadI 2 22), fCall hdOut 2 56 23, aP (pStA 0 24), aP (pLoadA 0 25), aP (pLoadI 3 26), aP (pInc 3 1 27), aP (pLoadA 1 28), fCallV hdOut 0 [(14, 91), (25, 171), (26, 174), (28, 179), (29, 182)] 29, aM (fRst raTab 30), aP (pGoto 5), aP (pLoadI 3 32), aP (pLoadI 2 33), aP (pCmp fc_ne 36 34), aP (pLoadA 0 35), aP (pGoto 39), aP (pLoadA 0 37), aP (pLoadI 3 38), fCall hdOut 2 56 39, fRetA]
def cd_2 : List lI := cd_2_0
/-! java/util/AbstractCollection.isEmpty()Z -/
def cd_3_0 : List lI := [aP (pLoadA 0 1), fCallV hdOut 0 [(4, 28), (13, 81), (31, 185), (34, 192), (37, 210)] 2, aP (pIf fz_ne 5 3), aP (pPush (.int 1) 4), aP (pGoto 6), aP (pPush (.int 0) 6), fRetI .boolean]
def cd_3 : List lI := cd_3_0
/-! java/util/AbstractList.<init>()V -/
def cd_4_0 : List lI := [aP (pLoadA 0 1), fCallV hdOut 0 [(1, 0), (2, 0), (4, 0), (13, 0), (30, 0), (31, 0), (34, 0), (36, 0), (37, 0)] 2, aP (pLoadA 0 3), aP (pPush (.int 0) 4), aM (fPut [(13, 0)] (.int) 5), fRetV]
def cd_4 : List lI := cd_4_0
/-! java/util/BitSet.<init>()V -/
def cd_5_0 : List lI := [aP (pLoadA 0 1), fObj 2, aP (pLoadA 0 3), aP (pPush (.int 0) 4), aM (fPut [(3, 1)] (.int) 5), aP (pLoadA 0 6), aP (pPush (.int 0) 7), aM (fPut [(3, 2)] (.boolean) 8), aP (pLoadA 0 9), aP (pPush (.int 64) 10), fCallV hdOut 1 [(3, 6)] 11, aP (pLoadA 0 12), aP (pPush (.int 0) 13), aM (fPut [(3, 2)] (.boolean) 14), fRetV]
def cd_5 : List lI := cd_5_0
/-! java/util/BitSet.initWords(I)V -/
def cd_6_0 : List lI := [aP (pLoadA 0 1), aP (pLoadI 1 2), aP (pPush (.int 1) 3), aP (pBinI (· - ·) 4), fCall hdOut 1 7 5, aP (pPush (.int 1) 6), aP (pBinI (· + ·) 7), aM (fNewa 1 (.long 0) 8), aM (fPut [(3, 0)] (.array .long) 9), fRetV]
def cd_6 : List lI := cd_6_0
/-! java/util/BitSet.wordIndex(I)I -/
def cd_7_0 : List lI := [aP (pLoadI 0 1), aP (pPush (.int 6) 2), aP (pBinI (fun x y => x >>> (y &&& 31)) 3), fRetI .int]
def cd_7 : List lI := cd_7_0
/-! java/util/BitSet.set(I)V -/
def cd_8_0 : List lI := [aP (pLoadI 1 1), aP (pIf fz_ge 14 2), fStuck, aP (pDup 4), fStuck, aP (pDup 6), fStuck, fStuck, fStuck, aP (pLoadI 1 10), fStuck, fStuck, fStuck, fThrow hdOut, aP (pLoadI 1 15), fCall hdOut 1 7 16, aP (pStI 2 17), aP (pLoadA 0 18), aP (pLoadI 2 19), fCallV hdOut 1 [(3, 9)] 20, aP (pLoadA 0 21), aM (fGet [(3, 0)] 22), aP (pLoadI 2 23), aP (pDup2G 24), aM (fAld [1] 25), aP (pPush (.long 1) 26), aP (pLoadI 1 27), aP (pShL (fun x y => x <<< (y.toInt64 &&& 63)) 28), aP (pBinL (· ||| ·) 29), aM (fLst 1 30), aP (pLoadA 0 31), fCallV hdOut 0 [(3, 11)] 32, fRetV]
def cd_8 : List lI := cd_8_0
/-! java/util/BitSet.expandTo(I)V -/
def cd_9_0 : List lI := [aP (pLoadI 1 1), aP (pPush (.int 1) 2), aP (pBinI (· + ·) 3), aP (pStI 2 4), aP (pLoadA 0 5), aM (fGet [(3, 1)] 6), aP (pLoadI 2 7), aP (pCmp fc_ge 14 8), aP (pLoadA 0 9), aP (pLoadI 2 10), fCallV hdOut 1 [(3, 10)] 11, aP (pLoadA 0 12), aP (pLoadI 2 13), aM (fPut [(3, 1)] (.int) 14), fRetV]
def cd_9 : List lI := cd_9_0
/-! java/util/BitSet.ensureCapacity(I)V -/
def cd_10_0 : List lI := [aP (pLoadA 0 1), aM (fGet [(3, 0)] 2), aM (fLen 3), aP (pLoadI 1 4), aP (pCmp fc_ge 22 5), aP (pPush (.int 2) 6), aP (pLoadA 0 7), aM (fGet [(3, 0)] 8), aM (fLen 9), aP (pBinI (· * ·) 10), aP (pLoadI 1 11), fCall hdOut 2 47 12, aP (pStI 2 13), aP (pLoadA 0 14), aP (pLoadA 0 15), aM (fGet [(3, 0)] 16), aP (pLoadI 2 17), fCall hdOut 2 64 18, aM (fPut [(3, 0)] (.array .long) 19), aP (pLoadA 0 20), aP (pPush (.int 0) 21), aM (fPut [(3, 2)] (.boolean) 22), fRetV]
def cd_10 : List lI := cd_10_0
/-! java/util/BitSet.checkInvariants()V -/
def cd_11_0 : List lI := [aM (fEnv 0 1), aP (pIf fz_ne 19 2), aP (pLoadA 0 3), aM (fGet [(3, 1)] 4), aP (pIf fz_eq 19 5), aP (pLoadA 0 6), aM (fGet [(3, 0)] 7), aP (pLoadA 0 8), aM (fGet [(3, 1)] 9), aP (pPush (.int 1) 10), aP (pBinI (· - ·) 11), aM (fAld [1] 12), aP (pPush (.long 0) 13), aP (pLcmp 14), aP (pIf fz_ne 19 15), fStuck, aP (pDup 17), fStuck, fThrow hdOut, aM (fEnv 0 20), aP (pIf fz_ne 34 21), aP (pLoadA 0 22), aM (fGet [(3, 1)] 23), aP (pIf fz_lt 30 24), aP (pLoadA 0 25), aM (fGet [(3, 1)] 26), aP (pLoadA 0 27), aM (fGet [(3, 0)] 28), aM (fLen 29), aP (pCmp fc_le 34 30), fStuck, aP (pDup 32), fStuck, fThrow hdOut, aM (fEnv 0 35), aP (pIf fz_ne 54 36), aP (pLoadA 0 37), aM (fGet [(3, 1)] 38), aP (pLoadA 0 39), aM (fGet [(3, 0)] 40)]
def cd_11_1 : List lI := [aM (fLen 41), aP (pCmp fc_eq 54 42), aP (pLoadA 0 43), aM (fGet [(3, 0)] 44), aP (pLoadA 0 45), aM (fGet [(3, 1)] 46), aM (fAld [1] 47), aP (pPush (.long 0) 48), aP (pLcmp 49), aP (pIf fz_eq 54 50), fStuck, aP (pDup 52), fStuck, fThrow hdOut, fRetV]
def cd_11 : List lI := cd_11_0 ++ (cd_11_1)
/-! java/util/BitSet.nextSetBit(I)I -/
def cd_12_0 : List lI := [aP (pLoadI 1 1), aP (pIf fz_ge 14 2), fStuck, aP (pDup 4), fStuck, aP (pDup 6), fStuck, fStuck, fStuck, aP (pLoadI 1 10), fStuck, fStuck, fStuck, fThrow hdOut, aP (pLoadA 0 15), fCallV hdOut 0 [(3, 11)] 16, aP (pLoadI 1 17), fCall hdOut 1 7 18, aP (pStI 2 19), aP (pLoadI 2 20), aP (pLoadA 0 21), aM (fGet [(3, 1)] 22), aP (pCmp fc_lt 25 23), aP (pPush (.int (-1)) 24), fRetI .int, aP (pLoadA 0 26), aM (fGet [(3, 0)] 27), aP (pLoadI 2 28), aM (fAld [1] 29), aP (pPush (.long (-1)) 30), aP (pLoadI 1 31), aP (pShL (fun x y => x <<< (y.toInt64 &&& 63)) 32), aP (pBinL (· &&& ·) 33), aP (pStL 3 34), aP (pLoadL 3 35), aP (pPush (.long 0) 36), aP (pLcmp 37), aP (pIf fz_eq 45 38), aP (pLoadI 2 39), aP (pPush (.int 64) 40)]
def cd_12_1 : List lI := [aP (pBinI (· * ·) 41), aP (pLoadL 3 42), fCall hdOut 1 115 43, aP (pBinI (· + ·) 44), fRetI .int, aP (pInc 2 1 46), aP (pLoadI 2 47), aP (pLoadA 0 48), aM (fGet [(3, 1)] 49), aP (pCmp fc_ne 52 50), aP (pPush (.int (-1)) 51), fRetI .int, aP (pLoadA 0 53), aM (fGet [(3, 0)] 54), aP (pLoadI 2 55), aM (fAld [1] 56), aP (pStL 3 57), aP (pGoto 34)]
def cd_12 : List lI := cd_12_0 ++ (cd_12_1)
/-! java/util/BitSet.get(I)Z -/
def cd_13_0 : List lI := [aP (pLoadI 1 1), aP (pIf fz_ge 14 2), fStuck, aP (pDup 4), fStuck, aP (pDup 6), fStuck, fStuck, fStuck, aP (pLoadI 1 10), fStuck, fStuck, fStuck, fThrow hdOut, aP (pLoadA 0 15), fCallV hdOut 0 [(3, 11)] 16, aP (pLoadI 1 17), fCall hdOut 1 7 18, aP (pStI 2 19), aP (pLoadI 2 20), aP (pLoadA 0 21), aM (fGet [(3, 1)] 22), aP (pCmp fc_ge 36 23), aP (pLoadA 0 24), aM (fGet [(3, 0)] 25), aP (pLoadI 2 26), aM (fAld [1] 27), aP (pPush (.long 1) 28), aP (pLoadI 1 29), aP (pShL (fun x y => x <<< (y.toInt64 &&& 63)) 30), aP (pBinL (· &&& ·) 31), aP (pPush (.long 0) 32), aP (pLcmp 33), aP (pIf fz_eq 36 34), aP (pPush (.int 1) 35), aP (pGoto 37), aP (pPush (.int 0) 37), fRetI .boolean]
def cd_13 : List lI := cd_13_0
/-! java/util/BitSet.set(IZ)V -/
def cd_14_0 : List lI := [aP (pLoadI 2 1), aP (pIf fz_eq 6 2), aP (pLoadA 0 3), aP (pLoadI 1 4), fCallV hdOut 1 [(3, 8)] 5, aP (pGoto 9), aP (pLoadA 0 7), aP (pLoadI 1 8), fCallV hdOut 1 [(3, 15)] 9, fRetV]
def cd_14 : List lI := cd_14_0
/-! java/util/BitSet.clear(I)V -/
def cd_15_0 : List lI := [aP (pLoadI 1 1), aP (pIf fz_ge 14 2), fStuck, aP (pDup 4), fStuck, aP (pDup 6), fStuck, fStuck, fStuck, aP (pLoadI 1 10), fStuck, fStuck, fStuck, fThrow hdOut, aP (pLoadI 1 15), fCall hdOut 1 7 16, aP (pStI 2 17), aP (pLoadI 2 18), aP (pLoadA 0 19), aM (fGet [(3, 1)] 20), aP (pCmp fc_lt 22 21), fRetV, aP (pLoadA 0 23), aM (fGet [(3, 0)] 24), aP (pLoadI 2 25), aP (pDup2G 26), aM (fAld [1] 27), aP (pPush (.long 1) 28), aP (pLoadI 1 29), aP (pShL (fun x y => x <<< (y.toInt64 &&& 63)) 30), aP (pPush (.long (-1)) 31), aP (pBinL (· ^^^ ·) 32), aP (pBinL (· &&& ·) 33), aM (fLst 1 34), aP (pLoadA 0 35), fCallV hdOut 0 [(3, 16)] 36, aP (pLoadA 0 37), fCallV hdOut 0 [(3, 11)] 38, fRetV]
def cd_15 : List lI := cd_15_0
/-! java/util/BitSet.recalculateWordsInUse()V -/
def cd_16_0 : List lI := [aP (pLoadA 0 1), aM (fGet [(3, 1)] 2), aP (pPush (.int 1) 3), aP (pBinI (· - ·) 4), aP (pStI 1 5), aP (pLoadI 1 6), aP (pIf fz_lt 17 7), aP (pLoadA 0 8), aM (fGet [(3, 0)] 9), aP (pLoadI 1 10), aM (fAld [1] 11), aP (pPush (.long 0) 12), aP (pLcmp 13), aP (pIf fz_eq 15 14), aP (pGoto 17), aP (pInc 1 (-1) 16), aP (pGoto 5), aP (pLoadA 0 18), aP (pLoadI 1 19), aP (pPush (.int 1) 20), aP (pBinI (· + ·) 21), aM (fPut [(3, 1)] (.int) 22), fRetV]
def cd_16 : List lI := cd_16_0
/-! java/util/BitSet.or(Ljava/util/BitSet;)V -/
def cd_17_0 : List lI := [aP (pLoadA 0 1), aP (pLoadA 1 2), aP (pAeq 3 4), fRetV, aP (pLoadA 0 5), aM (fGet [(3, 1)] 6), aP (pLoadA 1 7), aM (fGet [(3, 1)] 8), fCall hdOut 2 48 9, aP (pStI 2 10), aP (pLoadA 0 11), aM (fGet [(3, 1)] 12), aP (pLoadA 1 13), aM (fGet [(3, 1)] 14), aP (pCmp fc_ge 23 15), aP (pLoadA 0 16), aP (pLoadA 1 17), aM (fGet [(3, 1)] 18), fCallV hdOut 1 [(3, 10)] 19, aP (pLoadA 0 20), aP (pLoadA 1 21), aM (fGet [(3, 1)] 22), aM (fPut [(3, 1)] (.int) 23), aP (pPush (.int 0) 24), aP (pStI 3 25), aP (pLoadI 3 26), aP (pLoadI 2 27), aP (pCmp fc_ge 41 28), aP (pLoadA 0 29), aM (fGet [(3, 0)] 30), aP (pLoadI 3 31), aP (pDup2G 32), aM (fAld [1] 33), aP (pLoadA 1 34), aM (fGet [(3, 0)] 35), aP (pLoadI 3 36), aM (fAld [1] 37), aP (pBinL (· ||| ·) 38), aM (fLst 1 39), aP (pInc 3 1 40)]
def cd_17_1 : List lI := [aP (pGoto 25), aP (pLoadI 2 42), aP (pLoadA 1 43), aM (fGet [(3, 1)] 44), aP (pCmp fc_ge 56 45), aP (pLoadA 1 46), aM (fGet [(3, 0)] 47), aP (pLoadI 2 48), aP (pLoadA 0 49), aM (fGet [(3, 0)] 50), aP (pLoadI 2 51), aP (pLoadA 0 52), aM (fGet [(3, 1)] 53), aP (pLoadI 2 54), aP (pBinI (· - ·) 55), aM (fCopy lPrims raTab 56), aP (pLoadA 0 57), fCallV hdOut 0 [(3, 11)] 58, fRetV]
def cd_17 : List lI := cd_17_0 ++ (cd_17_1)
/-! java/util/BitSet.cardinality()I -/
def cd_18_0 : List lI := [aP (pPush (.int 0) 1), aP (pStI 1 2), aP (pPush (.int 0) 3), aP (pStI 2 4), aP (pLoadI 2 5), aP (pLoadA 0 6), aM (fGet [(3, 1)] 7), aP (pCmp fc_ge 18 8), aP (pLoadI 1 9), aP (pLoadA 0 10), aM (fGet [(3, 0)] 11), aP (pLoadI 2 12), aM (fAld [1] 13), fCall hdOut 1 118 14, aP (pBinI (· + ·) 15), aP (pStI 1 16), aP (pInc 2 1 17), aP (pGoto 4), aP (pLoadI 1 19), fRetI .int]
def cd_18 : List lI := cd_18_0
/-! java/util/ArrayDeque.<init>()V -/
def cd_19_0 : List lI := [aP (pLoadA 0 1), fCallV hdOut 0 [(1, 0), (2, 0), (4, 0), (13, 0), (30, 0), (31, 0), (34, 0), (36, 0), (37, 0)] 2, aP (pLoadA 0 3), aP (pPush (.int 17) 4), aM (fNewa 6 .null 5), aM (fPut [(4, 0)] (.array (.object "java/lang/Object")) 6), fRetV]
def cd_19 : List lI := cd_19_0
/-! java/util/ArrayDeque.isEmpty()Z -/
def cd_20_0 : List lI := [aP (pLoadA 0 1), aM (fGet [(4, 1)] 2), aP (pLoadA 0 3), aM (fGet [(4, 2)] 4), aP (pCmp fc_ne 7 5), aP (pPush (.int 1) 6), aP (pGoto 8), aP (pPush (.int 0) 8), fRetI .boolean]
def cd_20 : List lI := cd_20_0
/-! java/util/ArrayDeque.nonNullElementAt([Ljava/lang/Object;I)Ljava/lang/Object; -/
def cd_21_0 : List lI := [aP (pLoadA 0 1), aP (pLoadI 1 2), aM (fAld [6, 7, 8, 9, 10, 11] 3), aP (pStA 2 4), aP (pLoadA 2 5), aP (pNul 6 10), fStuck, aP (pDup 8), fStuck, fThrow hdOut, aP (pLoadA 2 11), fRetA]
def cd_21 : List lI := cd_21_0
/-! java/util/ArrayDeque.inc(II)I -/
def cd_22_0 : List lI := [aP (pInc 0 1 1), aP (pLoadI 0 2), aP (pLoadI 1 3), aP (pCmp fc_lt 6 4), aP (pPush (.int 0) 5), aP (pStI 0 6), aP (pLoadI 0 7), fRetI .int]
def cd_22 : List lI := cd_22_0
/-! java/util/ArrayDeque.poll()Ljava/lang/Object; -/
def cd_23_0 : List lI := [aP (pLoadA 0 1), fCallV hdOut 0 [(4, 24)] 2, fRetA]
def cd_23 : List lI := cd_23_0
/-! java/util/ArrayDeque.pollFirst()Ljava/lang/Object; -/
def cd_24_0 : List lI := [aP (pLoadA 0 1), aM (fGet [(4, 0)] 2), aP (pDup 3), aP (pStA 1 4), aP (pLoadA 0 5), aM (fGet [(4, 1)] 6), aP (pDup 7), aP (pStI 2 8), fCall hdOut 2 25 9, aP (pStA 3 10), aP (pLoadA 3 11), aP (pNul 22 12), aP (pLoadA 1 13), aP (pLoadI 2 14), aP (pPush .null 15), aM (fRst raTab 16), aP (pLoadA 0 17), aP (pLoadI 2 18), aP (pLoadA 1 19), aM (fLen 20), fCall hdOut 2 22 21, aM (fPut [(4, 1)] (.int) 22), aP (pLoadA 3 23), fRetA]
def cd_24 : List lI := cd_24_0
/-! java/util/ArrayDeque.elementAt([Ljava/lang/Object;I)Ljava/lang/Object; -/
def cd_25_0 : List lI := [aP (pLoadA 0 1), aP (pLoadI 1 2), aM (fAld [6, 7, 8, 9, 10, 11] 3), fRetA]
def cd_25 : List lI := cd_25_0
/-! java/util/ArrayDeque.toArray()[Ljava/lang/Object; -/
def cd_26_0 : List lI := [aP (pLoadA 0 1), aM (fEnv 1 2), fCallV hdOut 1 [(4, 27)] 3, fRetA]
def cd_26 : List lI := cd_26_0
/-! java/util/ArrayDeque.toArray(Ljava/lang/Class;)[Ljava/lang/Object; -/
def cd_27_0 : List lI := [aP (pLoadA 0 1), aM (fGet [(4, 0)] 2), aP (pStA 2 3), aP (pLoadA 0 4), aM (fGet [(4, 1)] 5), aP (pStI 4 6), aP (pLoadA 0 7), aM (fGet [(4, 2)] 8), aP (pStI 5 9), aP (pLoadI 5 10), aP (pLoadI 4 11), aP (pLoadI 5 12), aP (pCmp fc_gt 15 13), aP (pPush (.int 0) 14), aP (pGoto 17), aP (pLoadA 2 16), aM (fLen 17), aP (pBinI (· + ·) 18), aP (pDup 19), aP (pStI 6 20), aP (pIf fz_lt 28 21), aP (pLoadA 2 22), aP (pLoadI 4 23), aP (pLoadI 6 24), aP (pLoadA 1 25), fCall hdOut 4 65 26, aP (pStA 3 27), aP (pGoto 45), aP (pLoadA 2 29), aP (pPush (.int 0) 30), aP (pLoadI 6 31), aP (pLoadI 4 32), aP (pBinI (· - ·) 33), aP (pLoadA 1 34), fCall hdOut 4 65 35, aP (pStA 3 36), aP (pLoadA 2 37), aP (pLoadI 4 38), aP (pLoadA 3 39), aP (pPush (.int 0) 40)]
def cd_27_1 : List lI := [aP (pLoadA 2 41), aM (fLen 42), aP (pLoadI 4 43), aP (pBinI (· - ·) 44), aM (fCopy lPrims raTab 45), aP (pLoadI 6 46), aP (pLoadI 5 47), aP (pCmp fc_eq 57 48), aP (pLoadA 2 49), aP (pPush (.int 0) 50), aP (pLoadA 3 51), aP (pLoadA 2 52), aM (fLen 53), aP (pLoadI 4 54), aP (pBinI (· - ·) 55), aP (pLoadI 5 56), aM (fCopy lPrims raTab 57), aP (pLoadA 3 58), fRetA]
def cd_27 : List lI := cd_27_0 ++ (cd_27_1)
/-! java/util/ArrayDeque.size()I -/
def cd_28_0 : List lI := [aP (pLoadA 0 1), aM (fGet [(4, 2)] 2), aP (pLoadA 0 3), aM (fGet [(4, 1)] 4), aP (pLoadA 0 5), aM (fGet [(4, 0)] 6), aM (fLen 7), fCall hdOut 3 29 8, fRetI .int]
def cd_28 : List lI := cd_28_0
/-! java/util/ArrayDeque.sub(III)I -/
def cd_29_0 : List lI := [aP (pLoadI 0 1), aP (pLoadI 1 2), aP (pBinI (· - ·) 3), aP (pDup 4), aP (pStI 0 5), aP (pIf fz_ge 10 6), aP (pLoadI 0 7), aP (pLoadI 2 8), aP (pBinI (· + ·) 9), aP (pStI 0 10), aP (pLoadI 0 11), fRetI .int]
def cd_29 : List lI := cd_29_0
/-! java/util/ArrayDeque.iterator()Ljava/util/Iterator; -/
def cd_30_0 : List lI := [aM (fNew 25 [.int 0, .int 0, .int 0, .null] 1), aP (pDup 2), aP (pLoadA 0 3), fCallV hdOut 1 [(25, 172)] 4, fRetA]
def cd_30 : List lI := cd_30_0
/-! java/util/ArrayDeque.addLast(Ljava/lang/Object;)V -/
def cd_31_0 : List lI := [aP (pLoadA 1 1), aP (pNul 2 6), fStuck, aP (pDup 4), fStuck, fThrow hdOut, aP (pLoadA 0 7), aM (fGet [(4, 0)] 8), aP (pStA 2 9), aP (pLoadA 2 10), aP (pLoadA 0 11), aM (fGet [(4, 2)] 12), aP (pLoadA 1 13), aM (fRst raTab 14), aP (pLoadA 0 15), aM (fGet [(4, 1)] 16), aP (pLoadA 0 17), aP (pLoadA 0 18), aM (fGet [(4, 2)] 19), aP (pLoadA 2 20), aM (fLen 21), fCall hdOut 2 22 22, aP (pDupX1 23), aM (fPut [(4, 2)] (.int) 24), aP (pCmp fc_ne 28 25), aP (pLoadA 0 26), aP (pPush (.int 1) 27), fCallV hdOut 1 [(4, 32)] 28, fRetV]
def cd_31 : List lI := cd_31_0
/-! java/util/ArrayDeque.grow(I)V -/
def cd_32_0 : List lI := [aP (pLoadA 0 1), aM (fGet [(4, 0)] 2), aM (fLen 3), aP (pStI 2 4), aP (pLoadI 2 5), aP (pPush (.int 64) 6), aP (pCmp fc_ge 11 7), aP (pLoadI 2 8), aP (pPush (.int 2) 9), aP (pBinI (· + ·) 10), aP (pGoto 14), aP (pLoadI 2 12), aP (pPush (.int 1) 13), aP (pBinI (fun x y => x >>> (y &&& 31)) 14), aP (pStI 4 15), aP (pLoadI 4 16), aP (pLoadI 1 17), aP (pCmp fc_lt 26 18), aP (pLoadI 2 19), aP (pLoadI 4 20), aP (pBinI (· + ·) 21), aP (pDup 22), aP (pStI 3 23), aP (pPush (.int 2147483639) 24), aP (pBinI (· - ·) 25), aP (pIf fz_le 31 26), aP (pLoadA 0 27), aP (pLoadI 1 28), aP (pLoadI 4 29), fCallV hdOut 2 [(4, 33)] 30, aP (pStI 3 31), aP (pLoadA 0 32), aP (pLoadA 0 33), aM (fGet [(4, 0)] 34), aP (pLoadI 3 35), fCall hdOut 2 56 36, aP (pDupX1 37), aM (fPut [(4, 0)] (.array (.object "java/lang/Object")) 38), aP (pStA 5 39), aP (pLoadA 0 40)]
def cd_32_1 : List lI := [aM (fGet [(4, 2)] 41), aP (pLoadA 0 42), aM (fGet [(4, 1)] 43), aP (pCmp fc_lt 54 44), aP (pLoadA 0 45), aM (fGet [(4, 2)] 46), aP (pLoadA 0 47), aM (fGet [(4, 1)] 48), aP (pCmp fc_ne 91 49), aP (pLoadA 5 50), aP (pLoadA 0 51), aM (fGet [(4, 1)] 52), aM (fAld [6, 7, 8, 9, 10, 11] 53), aP (pNul 91 54), aP (pLoadI 3 55), aP (pLoadI 2 56), aP (pBinI (· - ·) 57), aP (pStI 6 58), aP (pLoadA 5 59), aP (pLoadA 0 60), aM (fGet [(4, 1)] 61), aP (pLoadA 5 62), aP (pLoadA 0 63), aM (fGet [(4, 1)] 64), aP (pLoadI 6 65), aP (pBinI (· + ·) 66), aP (pLoadI 2 67), aP (pLoadA 0 68), aM (fGet [(4, 1)] 69), aP (pBinI (· - ·) 70), aM (fCopy lPrims raTab 71), aP (pLoadA 0 72), aM (fGet [(4, 1)] 73), aP (pStI 7 74), aP (pLoadA 0 75), aP (pDup 76), aM (fGet [(4, 1)] 77), aP (pLoadI 6 78), aP (pBinI (· + ·) 79), aP (pDupX1 80)]
def cd_32_2 : List lI := [aM (fPut [(4, 1)] (.int) 81), aP (pStI 8 82), aP (pLoadI 7 83), aP (pLoadI 8 84), aP (pCmp fc_ge 91 85), aP (pLoadA 5 86), aP (pLoadI 7 87), aP (pPush .null 88), aM (fRst raTab 89), aP (pInc 7 1 90), aP (pGoto 82), fRetV]
def cd_32 : List lI := cd_32_0 ++ (cd_32_1 ++ (cd_32_2))
/-! java/util/ArrayDeque.newCapacity(II)I -/
def cd_33_0 : List lI := [aP (pLoadA 0 1), aM (fGet [(4, 0)] 2), aM (fLen 3), aP (pStI 3 4), aP (pLoadI 3 5), aP (pLoadI 1 6), aP (pBinI (· + ·) 7), aP (pDup 8), aP (pStI 4 9), aP (pPush (.int 2147483639) 10), aP (pBinI (· - ·) 11), aP (pIf fz_le 21 12), aP (pLoadI 4 13), aP (pIf fz_ge 19 14), aM (fNew 12 [.null, .null, .null, .null, .null, .int 0] 15), aP (pDup 16), aM (fEnv 2 17), fCallV hdOut 1 [(12, 75)] 18, fThrow hdOut, aP (pPush (.int 2147483647) 20), fRetI .int, aP (pLoadI 1 22), aP (pLoadI 2 23), aP (pCmp fc_le 26 24), aP (pLoadI 4 25), fRetI .int, aP (pLoadI 3 27), aP (pLoadI 2 28), aP (pBinI (· + ·) 29), aP (pPush (.int 2147483639) 30), aP (pBinI (· - ·) 31), aP (pIf fz_ge 36 32), aP (pLoadI 3 33), aP (pLoadI 2 34), aP (pBinI (· + ·) 35), aP (pGoto 37), aP (pPush (.int 2147483639) 37), fRetI .int]
def cd_33 : List lI := cd_33_0
/-! java/util/ArrayDeque.removeFirst()Ljava/lang/Object; -/
def cd_34_0 : List lI := [aP (pLoadA 0 1), fCallV hdOut 0 [(4, 24)] 2, aP (pStA 1 3), aP (pLoadA 1 4), aP (pNul 5 9), fStuck, aP (pDup 7), fStuck, fThrow hdOut, aP (pLoadA 1 10), fRetA]
def cd_34 : List lI := cd_34_0
/-! java/util/ArrayDeque.getFirst()Ljava/lang/Object; -/
def cd_35_0 : List lI := [aP (pLoadA 0 1), aM (fGet [(4, 0)] 2), aP (pLoadA 0 3), aM (fGet [(4, 1)] 4), fCall hdOut 2 25 5, aP (pStA 1 6), aP (pLoadA 1 7), aP (pNul 8 12), fStuck, aP (pDup 10), fStuck, fThrow hdOut, aP (pLoadA 1 13), fRetA]
def cd_35 : List lI := cd_35_0
/-! jdk/internal/util/ArraysSupport.newLength(III)I -/
def cd_36_0 : List lI := [aP (pLoadI 0 1), aP (pLoadI 1 2), aP (pLoadI 2 3), fCall hdOut 2 47 4, aP (pBinI (· + ·) 5), aP (pStI 3 6), aP (pPush (.int 0) 7), aP (pLoadI 3 8), aP (pCmp fc_ge 14 9), aP (pLoadI 3 10), aP (pPush (.int 2147483639) 11), aP (pCmp fc_gt 14 12), aP (pLoadI 3 13), fRetI .int, aP (pLoadI 0 15), aP (pLoadI 1 16), fCall hdOut 2 37 17, fRetI .int]
def cd_36 : List lI := cd_36_0
/-! jdk/internal/util/ArraysSupport.hugeLength(II)I -/
def cd_37_0 : List lI := [aP (pLoadI 0 1), aP (pLoadI 1 2), aP (pBinI (· + ·) 3), aP (pStI 2 4), aP (pLoadI 2 5), aP (pIf fz_ge 24 6), fStuck, aP (pDup 8), aM (fNew 35 [.null, .int 0, .int 0, .int 0] 9), aP (pDup 10), fCallV hdOut 0 [(35, 195)] 11, fStuck, fCallV hdOut 1 [(35, 200)] 13, aP (pLoadI 0 14), fCallV hdOut 1 [(35, 199)] 15, fStuck, fCallV hdOut 1 [(35, 200)] 17, aP (pLoadI 1 18), fCallV hdOut 1 [(35, 199)] 19, fStuck, fCallV hdOut 1 [(35, 200)] 21, fCallV hdOut 0 [(35, 201)] 22, fStuck, fThrow hdOut, aP (pLoadI 2 25), aP (pPush (.int 2147483639) 26), aP (pCmp fc_gt 29 27), aP (pPush (.int 2147483639) 28), fRetI .int, aP (pLoadI 2 30), fRetI .int]
def cd_37 : List lI := cd_37_0
/-! jdk/internal/util/ArraysSupport.mismatch([B[BI)I -/
def cd_38_0 : List lI := [aP (pPush (.int 0) 1), aP (pStI 3 2), aP (pLoadI 2 3), aP (pPush (.int 7) 4), aP (pCmp fc_le 34 5), aP (pLoadA 0 6), aP (pPush (.int 0) 7), aM (fAld [2, 3] 8), aP (pLoadA 1 9), aP (pPush (.int 0) 10), aM (fAld [2, 3] 11), aP (pCmp fc_eq 14 12), aP (pPush (.int 0) 13), fRetI .int, aP (pLoadA 0 15), aM (fEnv 3 16), aP (pI2L 17), aP (pLoadA 1 18), aM (fEnv 3 19), aP (pI2L 20), aP (pLoadI 2 21), aM (fEnv 4 22), fCall hdOut 6 39 23, aP (pStI 3 24), aP (pLoadI 3 25), aP (pIf fz_lt 28 26), aP (pLoadI 3 27), fRetI .int, aP (pLoadI 2 29), aP (pLoadI 3 30), aP (pPush (.int (-1)) 31), aP (pBinI (· ^^^ ·) 32), aP (pBinI (· - ·) 33), aP (pStI 3 34), aP (pLoadI 3 35), aP (pLoadI 2 36), aP (pCmp fc_ge 48 37), aP (pLoadA 0 38), aP (pLoadI 3 39), aM (fAld [2, 3] 40)]
def cd_38_1 : List lI := [aP (pLoadA 1 41), aP (pLoadI 3 42), aM (fAld [2, 3] 43), aP (pCmp fc_eq 46 44), aP (pLoadI 3 45), fRetI .int, aP (pInc 3 1 47), aP (pGoto 34), aP (pPush (.int (-1)) 49), fRetI .int]
def cd_38 : List lI := cd_38_0 ++ (cd_38_1)
/-! jdk/internal/util/ArraysSupport.vectorizedMismatch(Ljava/lang/Object;JLjava/lang/Object;JII)I -/
def cd_39_0 : List lI := [aM (fEnv 5 1), aP (pLoadI 7 2), aP (pBinI (· - ·) 3), aP (pStI 8 4), aP (pPush (.int 0) 5), aP (pStI 9 6), aP (pLoadI 9 7), aP (pLoadI 6 8), aP (pLoadI 8 9), aP (pBinI (fun x y => x >>> (y &&& 31)) 10), aP (pCmp fc_ge 62 11), aP (pLoadI 9 12), aP (pI2L 13), aM (fEnv 5 14), aP (pShL (fun x y => x <<< (y.toInt64 &&& 63)) 15), aP (pStL 10 16), aM (fEnv 6 17), aP (pLoadA 0 18), aP (pLoadL 1 19), aP (pLoadL 10 20), aP (pBinL (· + ·) 21), fStuck, aP (pStL 12 23), aM (fEnv 6 24), aP (pLoadA 3 25), aP (pLoadL 4 26), aP (pLoadL 10 27), aP (pBinL (· + ·) 28), fStuck, aP (pStL 14 30), aP (pLoadL 12 31), aP (pLoadL 14 32), aP (pLcmp 33), aP (pIf fz_eq 60 34), aP (pLoadL 12 35), aP (pLoadL 14 36), aP (pBinL (· ^^^ ·) 37), aP (pStL 16 38), aM (fEnv 7 39), aP (pIf fz_eq 47 40)]
def cd_39_1 : List lI := [aP (pLoadL 16 41), fCall hdOut 1 114 42, aM (fEnv 8 43), aP (pLoadI 7 44), aP (pBinI (· + ·) 45), aP (pBinI (fun x y => x >>> (y &&& 31)) 46), aP (pGoto 53), aP (pLoadL 16 48), fCall hdOut 1 115 49, aM (fEnv 8 50), aP (pLoadI 7 51), aP (pBinI (· + ·) 52), aP (pBinI (fun x y => x >>> (y &&& 31)) 53), aP (pStI 18 54), aP (pLoadI 9 55), aP (pLoadI 8 56), aP (pBinI (fun x y => x <<< (y &&& 31)) 57), aP (pLoadI 18 58), aP (pBinI (· + ·) 59), fRetI .int, aP (pInc 9 1 61), aP (pGoto 6), aP (pLoadI 6 63), aP (pLoadI 9 64), aP (pLoadI 8 65), aP (pBinI (fun x y => x <<< (y &&& 31)) 66), aP (pBinI (· - ·) 67), aP (pStI 10 68), aP (pLoadI 7 69), aM (fEnv 9 70), aP (pCmp fc_ge 136 71), aP (pPush (.int 1) 72), aM (fEnv 9 73), aP (pLoadI 7 74), aP (pBinI (· - ·) 75), aP (pBinI (fun x y => x <<< (y &&& 31)) 76), aP (pStI 11 77), aP (pLoadI 10 78), aP (pLoadI 11 79), aP (pCmp fc_lt 132 80)]
def cd_39_2 : List lI := [aP (pLoadI 9 81), aP (pI2L 82), aM (fEnv 5 83), aP (pShL (fun x y => x <<< (y.toInt64 &&& 63)) 84), aP (pStL 12 85), aM (fEnv 6 86), aP (pLoadA 0 87), aP (pLoadL 1 88), aP (pLoadL 12 89), aP (pBinL (· + ·) 90), fStuck, aP (pStI 14 92), aM (fEnv 6 93), aP (pLoadA 3 94), aP (pLoadL 4 95), aP (pLoadL 12 96), aP (pBinL (· + ·) 97), fStuck, aP (pStI 15 99), aP (pLoadI 14 100), aP (pLoadI 15 101), aP (pCmp fc_eq 128 102), aP (pLoadI 14 103), aP (pLoadI 15 104), aP (pBinI (· ^^^ ·) 105), aP (pStI 16 106), aM (fEnv 7 107), aP (pIf fz_eq 115 108), aP (pLoadI 16 109), fCall hdOut 1 105 110, aM (fEnv 8 111), aP (pLoadI 7 112), aP (pBinI (· + ·) 113), aP (pBinI (fun x y => x >>> (y &&& 31)) 114), aP (pGoto 121), aP (pLoadI 16 116), fCall hdOut 1 106 117, aM (fEnv 8 118), aP (pLoadI 7 119), aP (pBinI (· + ·) 120)]
def cd_39_3 : List lI := [aP (pBinI (fun x y => x >>> (y &&& 31)) 121), aP (pStI 17 122), aP (pLoadI 9 123), aP (pLoadI 8 124), aP (pBinI (fun x y => x <<< (y &&& 31)) 125), aP (pLoadI 17 126), aP (pBinI (· + ·) 127), fRetI .int, aP (pLoadI 10 129), aP (pLoadI 11 130), aP (pBinI (· - ·) 131), aP (pStI 10 132), aP (pLoadI 10 133), aP (pPush (.int (-1)) 134), aP (pBinI (· ^^^ ·) 135), fRetI .int, aP (pLoadI 10 137), aP (pPush (.int (-1)) 138), aP (pBinI (· ^^^ ·) 139), fRetI .int]
def cd_39 : List lI := cd_39_0 ++ (cd_39_1 ++ (cd_39_2 ++ (cd_39_3)))
/-! jdk/internal/util/ArraysSupport.vectorizedHashCode(Ljava/lang/Object;IIII)I -/
def cd_40_0 : List lI := [aP (pLoadI 4 1), aP (pSw (swT 4 [2, 9, 47, 47, 26, 33, 40] 47)), aP (pLoadI 3 3), aP (pLoadA 0 4), aM (fCastA [2] 5), aP (pLoadI 1 6), aP (pLoadI 2 7), fCall hdOut 4 41 8, aP (pGoto 59), aP (pLoadA 0 10), fStuck, aP (pIf fz_eq 19 12), aP (pLoadI 3 13), aP (pLoadA 0 14), aM (fCastA [2] 15), aP (pLoadI 1 16), aP (pLoadI 2 17), fCall hdOut 4 42 18, aP (pGoto 59), aP (pLoadI 3 20), aP (pLoadA 0 21), aM (fCastA [4] 22), aP (pLoadI 1 23), aP (pLoadI 2 24), fCall hdOut 4 43 25, aP (pGoto 59), aP (pLoadI 3 27), aP (pLoadA 0 28), aM (fCastA [2] 29), aP (pLoadI 1 30), aP (pLoadI 2 31), fCall hdOut 4 44 32, aP (pGoto 59), aP (pLoadI 3 34), aP (pLoadA 0 35), aM (fCastA [5] 36), aP (pLoadI 1 37), aP (pLoadI 2 38), fCall hdOut 4 45 39, aP (pGoto 59)]
def cd_40_1 : List lI := [aP (pLoadI 3 41), aP (pLoadA 0 42), aM (fCastA [0] 43), aP (pLoadI 1 44), aP (pLoadI 2 45), fCall hdOut 4 46 46, aP (pGoto 59), aM (fNew 11 [.null, .null, .null, .null, .null, .int 0] 48), aP (pDup 49), aM (fNew 35 [.null, .int 0, .int 0, .int 0] 50), aP (pDup 51), fCallV hdOut 0 [(35, 195)] 52, aM (fEnv 10 53), fCallV hdOut 1 [(35, 200)] 54, aP (pLoadI 4 55), fCallV hdOut 1 [(35, 199)] 56, fCallV hdOut 0 [(35, 201)] 57, fCallV hdOut 1 [(11, 72)] 58, fThrow hdOut, fRetI .int]
def cd_40 : List lI := cd_40_0 ++ (cd_40_1)
/-! jdk/internal/util/ArraysSupport.signedHashCode(I[BII)I -/
def cd_41_0 : List lI := [aP (pLoadI 2 1), aP (pLoadI 3 2), aP (pBinI (· + ·) 3), aP (pStI 4 4), aP (pLoadI 2 5), aP (pStI 5 6), aP (pLoadI 5 7), aP (pLoadI 4 8), aP (pCmp fc_ge 21 9), aP (pPush (.int 31) 10), aP (pLoadI 0 11), aP (pBinI (· * ·) 12), aP (pLoadA 1 13), aP (pLoadI 5 14), aM (fAld [2, 3] 15), aP (pPush (.int 255) 16), aP (pBinI (· &&& ·) 17), aP (pBinI (· + ·) 18), aP (pStI 0 19), aP (pInc 5 1 20), aP (pGoto 6), aP (pLoadI 0 22), fRetI .int]
def cd_41 : List lI := cd_41_0
/-! jdk/internal/util/ArraysSupport.utf16hashCode(I[BII)I -/
def cd_42_0 : List lI := [aP (pLoadI 2 1), aP (pLoadI 3 2), aP (pBinI (· + ·) 3), aP (pStI 4 4), aP (pLoadI 2 5), aP (pStI 5 6), aP (pLoadI 5 7), aP (pLoadI 4 8), aP (pCmp fc_ge 20 9), aP (pPush (.int 31) 10), aP (pLoadI 0 11), aP (pBinI (· * ·) 12), aM (fEnv 11 13), aP (pLoadA 1 14), aP (pLoadI 5 15), fStuck, aP (pBinI (· + ·) 17), aP (pStI 0 18), aP (pInc 5 1 19), aP (pGoto 6), aP (pLoadI 0 21), fRetI .int]
def cd_42 : List lI := cd_42_0
/-! jdk/internal/util/ArraysSupport.hashCode(I[CII)I -/
def cd_43_0 : List lI := [aP (pLoadI 2 1), aP (pLoadI 3 2), aP (pBinI (· + ·) 3), aP (pStI 4 4), aP (pLoadI 2 5), aP (pStI 5 6), aP (pLoadI 5 7), aP (pLoadI 4 8), aP (pCmp fc_ge 19 9), aP (pPush (.int 31) 10), aP (pLoadI 0 11), aP (pBinI (· * ·) 12), aP (pLoadA 1 13), aP (pLoadI 5 14), aM (fAld [4] 15), aP (pBinI (· + ·) 16), aP (pStI 0 17), aP (pInc 5 1 18), aP (pGoto 6), aP (pLoadI 0 20), fRetI .int]
def cd_43 : List lI := cd_43_0
/-! jdk/internal/util/ArraysSupport.hashCode(I[BII)I -/
def cd_44_0 : List lI := [aP (pLoadI 2 1), aP (pLoadI 3 2), aP (pBinI (· + ·) 3), aP (pStI 4 4), aP (pLoadI 2 5), aP (pStI 5 6), aP (pLoadI 5 7), aP (pLoadI 4 8), aP (pCmp fc_ge 19 9), aP (pPush (.int 31) 10), aP (pLoadI 0 11), aP (pBinI (· * ·) 12), aP (pLoadA 1 13), aP (pLoadI 5 14), aM (fAld [2, 3] 15), aP (pBinI (· + ·) 16), aP (pStI 0 17), aP (pInc 5 1 18), aP (pGoto 6), aP (pLoadI 0 20), fRetI .int]
def cd_44 : List lI := cd_44_0
/-! jdk/internal/util/ArraysSupport.hashCode(I[SII)I -/
def cd_45_0 : List lI := [aP (pLoadI 2 1), aP (pLoadI 3 2), aP (pBinI (· + ·) 3), aP (pStI 4 4), aP (pLoadI 2 5), aP (pStI 5 6), aP (pLoadI 5 7), aP (pLoadI 4 8), aP (pCmp fc_ge 19 9), aP (pPush (.int 31) 10), aP (pLoadI 0 11), aP (pBinI (· * ·) 12), aP (pLoadA 1 13), aP (pLoadI 5 14), aM (fAld [5] 15), aP (pBinI (· + ·) 16), aP (pStI 0 17), aP (pInc 5 1 18), aP (pGoto 6), aP (pLoadI 0 20), fRetI .int]
def cd_45 : List lI := cd_45_0
/-! jdk/internal/util/ArraysSupport.hashCode(I[III)I -/
def cd_46_0 : List lI := [aP (pLoadI 2 1), aP (pLoadI 3 2), aP (pBinI (· + ·) 3), aP (pStI 4 4), aP (pLoadI 2 5), aP (pStI 5 6), aP (pLoadI 5 7), aP (pLoadI 4 8), aP (pCmp fc_ge 19 9), aP (pPush (.int 31) 10), aP (pLoadI 0 11), aP (pBinI (· * ·) 12), aP (pLoadA 1 13), aP (pLoadI 5 14), aM (fAld [0, 12] 15), aP (pBinI (· + ·) 16), aP (pStI 0 17), aP (pInc 5 1 18), aP (pGoto 6), aP (pLoadI 0 20), fRetI .int]
def cd_46 : List lI := cd_46_0
/-! java/lang/Math.max(II)I -/
def cd_47_0 : List lI := [aP (pLoadI 0 1), aP (pLoadI 1 2), aP (pCmp fc_lt 5 3), aP (pLoadI 0 4), aP (pGoto 6), aP (pLoadI 1 6), fRetI .int]
def cd_47 : List lI := cd_47_0
/-! java/lang/Math.min(II)I -/
def cd_48_0 : List lI := [aP (pLoadI 0 1), aP (pLoadI 1 2), aP (pCmp fc_gt 5 3), aP (pLoadI 0 4), aP (pGoto 6), aP (pLoadI 1 6), fRetI .int]
def cd_48 : List lI := cd_48_0
/-! java/lang/Math.abs(I)I -/
def cd_49_0 : List lI := [aP (pLoadI 0 1), aP (pIf fz_ge 5 2), aP (pLoadI 0 3), aP (pUnI (fun x => -x) 4), aP (pGoto 6), aP (pLoadI 0 6), fRetI .int]
def cd_49 : List lI := cd_49_0
/-! java/lang/Math.abs(J)J -/
def cd_50_0 : List lI := [aP (pLoadL 0 1), aP (pPush (.long 0) 2), aP (pLcmp 3), aP (pIf fz_ge 7 4), aP (pLoadL 0 5), aP (pUnL (fun x => -x) 6), aP (pGoto 8), aP (pLoadL 0 8), fRetL]
def cd_50 : List lI := cd_50_0
/-! java/lang/Math.subtractExact(JJ)J -/
def cd_51_0 : List lI := [aP (pLoadL 0 1), aP (pLoadL 2 2), aP (pBinL (· - ·) 3), aP (pStL 4 4), aP (pLoadL 0 5), aP (pLoadL 2 6), aP (pBinL (· ^^^ ·) 7), aP (pLoadL 0 8), aP (pLoadL 4 9), aP (pBinL (· ^^^ ·) 10), aP (pBinL (· &&& ·) 11), aP (pPush (.long 0) 12), aP (pLcmp 13), aP (pIf fz_ge 19 14), aM (fNew 33 [.null, .null, .null, .null, .int 0, .null] 15), aP (pDup 16), aM (fEnv 12 17), fCallV hdOut 1 [(33, 191)] 18, fThrow hdOut, aP (pLoadL 4 20), fRetL]
def cd_51 : List lI := cd_51_0
/-! java/lang/Math.multiplyExact(JJ)J -/
def cd_52_0 : List lI := [aP (pLoadL 0 1), aP (pLoadL 2 2), aP (pBinL (· * ·) 3), aP (pStL 4 4), aP (pLoadL 0 5), fCall hdOut 1 50 6, aP (pStL 6 7), aP (pLoadL 2 8), fCall hdOut 1 50 9, aP (pStL 8 10), aP (pLoadL 6 11), aP (pLoadL 8 12), aP (pBinL (· ||| ·) 13), aP (pPush (.int 31) 14), aP (pShL (fun x y => (x.toUInt64 >>> (y.toInt64.toUInt64 &&& Int64.toUInt64 63)).toInt64) 15), aP (pPush (.long 0) 16), aP (pLcmp 17), aP (pIf fz_eq 41 18), aP (pLoadL 2 19), aP (pPush (.long 0) 20), aP (pLcmp 21), aP (pIf fz_eq 28 22), aP (pLoadL 4 23), aP (pLoadL 2 24), aP (pDivL (· / ·) 25), aP (pLoadL 0 26), aP (pLcmp 27), aP (pIf fz_ne 36 28), aP (pLoadL 0 29), aP (pPush (.long (-9223372036854775808)) 30), aP (pLcmp 31), aP (pIf fz_ne 41 32), aP (pLoadL 2 33), aP (pPush (.long (-1)) 34), aP (pLcmp 35), aP (pIf fz_ne 41 36), aM (fNew 33 [.null, .null, .null, .null, .int 0, .null] 37), aP (pDup 38), aM (fEnv 12 39), fCallV hdOut 1 [(33, 191)] 40]
def cd_52_1 : List lI := [fThrow hdOut, aP (pLoadL 4 42), fRetL]
def cd_52 : List lI := cd_52_0 ++ (cd_52_1)
/-! java/lang/Math.addExact(JJ)J -/
def cd_53_0 : List lI := [aP (pLoadL 0 1), aP (pLoadL 2 2), aP (pBinL (· + ·) 3), aP (pStL 4 4), aP (pLoadL 0 5), aP (pLoadL 4 6), aP (pBinL (· ^^^ ·) 7), aP (pLoadL 2 8), aP (pLoadL 4 9), aP (pBinL (· ^^^ ·) 10), aP (pBinL (· &&& ·) 11), aP (pPush (.long 0) 12), aP (pLcmp 13), aP (pIf fz_ge 19 14), aM (fNew 33 [.null, .null, .null, .null, .int 0, .null] 15), aP (pDup 16), aM (fEnv 12 17), fCallV hdOut 1 [(33, 191)] 18, fThrow hdOut, aP (pLoadL 4 20), fRetL]
def cd_53 : List lI := cd_53_0
/-! java/lang/Math.min(JJ)J -/
def cd_54_0 : List lI := [aP (pLoadL 0 1), aP (pLoadL 2 2), aP (pLcmp 3), aP (pIf fz_gt 6 4), aP (pLoadL 0 5), aP (pGoto 7), aP (pLoadL 2 7), fRetL]
def cd_54 : List lI := cd_54_0
/-! java/lang/Math.max(JJ)J -/
def cd_55_0 : List lI := [aP (pLoadL 0 1), aP (pLoadL 2 2), aP (pLcmp 3), aP (pIf fz_lt 6 4), aP (pLoadL 0 5), aP (pGoto 7), aP (pLoadL 2 7), fRetL]
def cd_55 : List lI := cd_55_0
/-! java/util/Arrays.copyOf([Ljava/lang/Object;I)[Ljava/lang/Object; -/
def cd_56_0 : List lI := [aP (pLoadA 0 1), aP (pLoadI 1 2), aP (pLoadA 0 3), aM (fGetC [6] 1 4), fCall hdOut 3 57 5, fRetA]
def cd_56 : List lI := cd_56_0
/-! java/util/Arrays.copyOf([Ljava/lang/Object;ILjava/lang/Class;)[Ljava/lang/Object; -/
def cd_57_0 : List lI := [aP (pLoadA 2 1), aM (fEnv 1 2), aP (pAeq 3 6), aP (pLoadI 1 4), aM (fNewa 6 .null 5), aP (pGoto 11), aP (pLoadA 2 7), fStuck, aP (pLoadI 1 9), fStuck, aM (fCastA [6] 11), aP (pStA 3 12), aP (pLoadA 0 13), aP (pPush (.int 0) 14), aP (pLoadA 3 15), aP (pPush (.int 0) 16), aP (pLoadA 0 17), aM (fLen 18), aP (pLoadI 1 19), fCall hdOut 2 48 20, aM (fCopy lPrims raTab 21), aP (pLoadA 3 22), fRetA]
def cd_57 : List lI := cd_57_0
/-! java/util/Arrays.copyOfRange([BII)[B -/
def cd_58_0 : List lI := [aP (pLoadI 1 1), aP (pIf fz_ne 6 2), aP (pLoadI 2 3), aP (pLoadA 0 4), aM (fLen 5), aP (pCmp fc_eq 11 6), aP (pLoadA 0 7), aP (pLoadI 1 8), aP (pLoadI 2 9), fCall hdOut 3 59 10, fRetA, aP (pLoadA 0 12), aM (fClone 2 (.byte) 13), aM (fCastA [2] 14), fRetA]
def cd_58 : List lI := cd_58_0
/-! java/util/Arrays.copyOfRangeByte([BII)[B -/
def cd_59_0 : List lI := [aP (pLoadI 1 1), aP (pLoadI 2 2), fCall hdOut 2 60 3, aP (pLoadI 2 4), aP (pLoadI 1 5), aP (pBinI (· - ·) 6), aP (pStI 3 7), aP (pLoadI 3 8), aM (fNewa 2 (.int 0) 9), aP (pStA 4 10), aP (pLoadA 0 11), aP (pLoadI 1 12), aP (pLoadA 4 13), aP (pPush (.int 0) 14), aP (pLoadA 0 15), aM (fLen 16), aP (pLoadI 1 17), aP (pBinI (· - ·) 18), aP (pLoadI 3 19), fCall hdOut 2 48 20, aM (fCopy lPrims raTab 21), aP (pLoadA 4 22), fRetA]
def cd_59 : List lI := cd_59_0
/-! java/util/Arrays.checkLength(II)V -/
def cd_60_0 : List lI := [aP (pLoadI 1 1), aP (pLoadI 0 2), aP (pCmp fc_ge 17 3), aM (fNew 11 [.null, .null, .null, .null, .null, .int 0] 4), aP (pDup 5), aM (fNew 35 [.null, .int 0, .int 0, .int 0] 6), aP (pDup 7), fCallV hdOut 0 [(35, 195)] 8, aP (pLoadI 0 9), fCallV hdOut 1 [(35, 199)] 10, aM (fEnv 13 11), fCallV hdOut 1 [(35, 200)] 12, aP (pLoadI 1 13), fCallV hdOut 1 [(35, 199)] 14, fCallV hdOut 0 [(35, 201)] 15, fCallV hdOut 1 [(11, 72)] 16, fThrow hdOut, fRetV]
def cd_60 : List lI := cd_60_0
/-! java/util/Arrays.copyOf([BI)[B -/
def cd_61_0 : List lI := [aP (pLoadI 1 1), aP (pLoadA 0 2), aM (fLen 3), aP (pCmp fc_ne 8 4), aP (pLoadA 0 5), aM (fClone 2 (.byte) 6), aM (fCastA [2] 7), fRetA, aP (pLoadI 1 9), aM (fNewa 2 (.int 0) 10), aP (pStA 2 11), aP (pLoadA 0 12), aP (pPush (.int 0) 13), aP (pLoadA 2 14), aP (pPush (.int 0) 15), aP (pLoadA 0 16), aM (fLen 17), aP (pLoadI 1 18), fCall hdOut 2 48 19, aM (fCopy lPrims raTab 20), aP (pLoadA 2 21), fRetA]
def cd_61 : List lI := cd_61_0
/-! java/util/Arrays.fill([BIIB)V -/
def cd_62_0 : List lI := [aP (pLoadA 0 1), aM (fLen 2), aP (pLoadI 1 3), aP (pLoadI 2 4), fCall hdOut 3 63 5, aP (pLoadI 1 6), aP (pStI 4 7), aP (pLoadI 4 8), aP (pLoadI 2 9), aP (pCmp fc_ge 16 10), aP (pLoadA 0 11), aP (pLoadI 4 12), aP (pLoadI 3 13), aM (fBst 2 3 14), aP (pInc 4 1 15), aP (pGoto 7), fRetV]
def cd_62 : List lI := cd_62_0
/-! java/util/Arrays.rangeCheck(III)V -/
def cd_63_0 : List lI := [aP (pLoadI 1 1), aP (pLoadI 2 2), aP (pCmp fc_le 21 3), aM (fNew 11 [.null, .null, .null, .null, .null, .int 0] 4), aP (pDup 5), aM (fNew 35 [.null, .int 0, .int 0, .int 0] 6), aP (pDup 7), fCallV hdOut 0 [(35, 195)] 8, aM (fEnv 14 9), fCallV hdOut 1 [(35, 200)] 10, aP (pLoadI 1 11), fCallV hdOut 1 [(35, 199)] 12, aM (fEnv 15 13), fCallV hdOut 1 [(35, 200)] 14, aP (pLoadI 2 15), fCallV hdOut 1 [(35, 199)] 16, aM (fEnv 16 17), fCallV hdOut 1 [(35, 200)] 18, fCallV hdOut 0 [(35, 201)] 19, fCallV hdOut 1 [(11, 72)] 20, fThrow hdOut, aP (pLoadI 1 22), aP (pIf fz_ge 28 23), fStuck, aP (pDup 25), aP (pLoadI 1 26), fStuck, fThrow hdOut, aP (pLoadI 2 29), aP (pLoadI 0 30), aP (pCmp fc_le 36 31), fStuck, aP (pDup 33), aP (pLoadI 2 34), fStuck, fThrow hdOut, fRetV]
def cd_63 : List lI := cd_63_0
/-! java/util/Arrays.copyOf([JI)[J -/
def cd_64_0 : List lI := [aP (pLoadI 1 1), aP (pLoadA 0 2), aM (fLen 3), aP (pCmp fc_ne 8 4), aP (pLoadA 0 5), aM (fClone 1 (.long) 6), aM (fCastA [1] 7), fRetA, aP (pLoadI 1 9), aM (fNewa 1 (.long 0) 10), aP (pStA 2 11), aP (pLoadA 0 12), aP (pPush (.int 0) 13), aP (pLoadA 2 14), aP (pPush (.int 0) 15), aP (pLoadA 0 16), aM (fLen 17), aP (pLoadI 1 18), fCall hdOut 2 48 19, aM (fCopy lPrims raTab 20), aP (pLoadA 2 21), fRetA]
def cd_64 : List lI := cd_64_0
/-! java/util/Arrays.copyOfRange([Ljava/lang/Object;IILjava/lang/Class;)[Ljava/lang/Object; -/
def cd_65_0 : List lI := [aP (pLoadI 2 1), aP (pLoadI 1 2), aP (pBinI (· - ·) 3), aP (pStI 4 4), aP (pLoadI 4 5), aP (pIf fz_ge 20 6), aM (fNew 11 [.null, .null, .null, .null, .null, .int 0] 7), aP (pDup 8), aM (fNew 35 [.null, .int 0, .int 0, .int 0] 9), aP (pDup 10), fCallV hdOut 0 [(35, 195)] 11, aP (pLoadI 1 12), fCallV hdOut 1 [(35, 199)] 13, aM (fEnv 13 14), fCallV hdOut 1 [(35, 200)] 15, aP (pLoadI 2 16), fCallV hdOut 1 [(35, 199)] 17, fCallV hdOut 0 [(35, 201)] 18, fCallV hdOut 1 [(11, 72)] 19, fThrow hdOut, aP (pLoadA 3 21), aM (fEnv 1 22), aP (pAeq 23 26), aP (pLoadI 4 24), aM (fNewa 6 .null 25), aP (pGoto 31), aP (pLoadA 3 27), fStuck, aP (pLoadI 4 29), fStuck, aM (fCastA [6] 31), aP (pStA 5 32), aP (pLoadA 0 33), aP (pLoadI 1 34), aP (pLoadA 5 35), aP (pPush (.int 0) 36), aP (pLoadA 0 37), aM (fLen 38), aP (pLoadI 1 39), aP (pBinI (· - ·) 40)]
def cd_65_1 : List lI := [aP (pLoadI 4 41), fCall hdOut 2 48 42, aM (fCopy lPrims raTab 43), aP (pLoadA 5 44), fRetA]
def cd_65 : List lI := cd_65_0 ++ (cd_65_1)
/-! java/lang/Throwable.<init>()V -/
def cd_66_0 : List lI := [aP (pLoadA 0 1), fObj 2, aP (pLoadA 0 3), aP (pLoadA 0 4), aM (fPut [(8, 0), (11, 0), (12, 0), (33, 2), (69, 0), (75, 0), (88, 0)] (.object "java/lang/Throwable") 5), aP (pLoadA 0 6), aM (fEnv 17 7), aM (fPut [(8, 1), (11, 1), (12, 1), (33, 3), (69, 1), (75, 1), (88, 1)] (.array (.object "java/lang/StackTraceElement")) 8), aP (pLoadA 0 9), aM (fEnv 18 10), aM (fPut [(8, 2), (11, 2), (12, 2), (33, 5), (69, 2), (75, 2), (88, 2)] (.object "java/util/List") 11), aP (pLoadA 0 12), aM (fFill fillT1 fillT2 17 13), aP (pPop 14), fRetV]
def cd_66 : List lI := cd_66_0
/-! java/lang/Throwable.<init>(Ljava/lang/String;)V -/
def cd_67_0 : List lI := [aP (pLoadA 0 1), fObj 2, aP (pLoadA 0 3), aP (pLoadA 0 4), aM (fPut [(8, 0), (11, 0), (12, 0), (33, 2), (69, 0), (75, 0), (88, 0)] (.object "java/lang/Throwable") 5), aP (pLoadA 0 6), aM (fEnv 17 7), aM (fPut [(8, 1), (11, 1), (12, 1), (33, 3), (69, 1), (75, 1), (88, 1)] (.array (.object "java/lang/StackTraceElement")) 8), aP (pLoadA 0 9), aM (fEnv 18 10), aM (fPut [(8, 2), (11, 2), (12, 2), (33, 5), (69, 2), (75, 2), (88, 2)] (.object "java/util/List") 11), aP (pLoadA 0 12), aM (fFill fillT1 fillT2 17 13), aP (pPop 14), aP (pLoadA 0 15), aP (pLoadA 1 16), aM (fPut [(8, 3), (11, 3), (12, 3), (33, 1), (69, 3), (75, 3), (88, 3)] (.object "java/lang/String") 17), fRetV]
def cd_67 : List lI := cd_67_0
/-! java/lang/Exception.<init>(Ljava/lang/String;)V -/
def cd_68_0 : List lI := [aP (pLoadA 0 1), aP (pLoadA 1 2), fCallV hdOut 1 [(8, 67), (9, 67), (10, 67), (11, 67), (12, 67), (33, 67), (69, 67), (75, 67), (88, 67)] 3, fRetV]
def cd_68 : List lI := cd_68_0
/-! java/lang/Exception.<init>()V -/
def cd_69_0 : List lI := [aP (pLoadA 0 1), fCallV hdOut 0 [(8, 66), (9, 66), (10, 66), (11, 66), (12, 66), (33, 66), (69, 66), (75, 66), (88, 66)] 2, fRetV]
def cd_69 : List lI := cd_69_0
/-! java/lang/RuntimeException.<init>(Ljava/lang/String;)V -/
def cd_70_0 : List lI := [aP (pLoadA 0 1), aP (pLoadA 1 2), fCallV hdOut 1 [(9, 68), (10, 68), (11, 68), (12, 68), (33, 68), (69, 68), (75, 68), (88, 68)] 3, fRetV]
def cd_70 : List lI := cd_70_0
/-! java/lang/RuntimeException.<init>()V -/
def cd_71_0 : List lI := [aP (pLoadA 0 1), fCallV hdOut 0 [(9, 69), (10, 69), (11, 69), (12, 69), (33, 69), (69, 69), (75, 69), (88, 69)] 2, fRetV]
def cd_71 : List lI := cd_71_0
/-! java/lang/IllegalArgumentException.<init>(Ljava/lang/String;)V -/
def cd_72_0 : List lI := [aP (pLoadA 0 1), aP (pLoadA 1 2), fCallV hdOut 1 [(10, 70), (11, 70), (12, 70), (33, 70)] 3, fRetV]
def cd_72 : List lI := cd_72_0
/-! java/lang/IllegalArgumentException.<init>()V -/
def cd_73_0 : List lI := [aP (pLoadA 0 1), fCallV hdOut 0 [(10, 71), (11, 71), (12, 71), (33, 71)] 2, fRetV]
def cd_73 : List lI := cd_73_0
/-! java/lang/IllegalStateException.<init>()V -/
def cd_74_0 : List lI := [aP (pLoadA 0 1), fCallV hdOut 0 [(10, 71), (11, 71), (12, 71), (33, 71)] 2, fRetV]
def cd_74 : List lI := cd_74_0
/-! java/lang/IllegalStateException.<init>(Ljava/lang/String;)V -/
def cd_75_0 : List lI := [aP (pLoadA 0 1), aP (pLoadA 1 2), fCallV hdOut 1 [(10, 70), (11, 70), (12, 70), (33, 70)] 3, fRetV]
def cd_75 : List lI := cd_75_0
/-! java/util/ArrayList.<init>()V -/
def cd_76_0 : List lI := [aP (pLoadA 0 1), fCallV hdOut 0 [(2, 4), (13, 4)] 2, aP (pLoadA 0 3), aM (fEnv 19 4), aM (fPut [(13, 1)] (.array (.object "java/lang/Object")) 5), fRetV]
def cd_76 : List lI := cd_76_0
/-! java/util/ArrayList.add(Ljava/lang/Object;)Z -/
def cd_77_0 : List lI := [aP (pLoadA 0 1), aP (pDup 2), aM (fGet [(13, 0)] 3), aP (pPush (.int 1) 4), aP (pBinI (· + ·) 5), aM (fPut [(13, 0)] (.int) 6), aP (pLoadA 0 7), aP (pLoadA 1 8), aP (pLoadA 0 9), aM (fGet [(13, 1)] 10), aP (pLoadA 0 11), aM (fGet [(13, 2)] 12), fCallV hdOut 3 [(13, 78)] 13, aP (pPush (.int 1) 14), fRetI .boolean]
def cd_77 : List lI := cd_77_0
/-! java/util/ArrayList.add(Ljava/lang/Object;[Ljava/lang/Object;I)V -/
def cd_78_0 : List lI := [aP (pLoadI 3 1), aP (pLoadA 2 2), aM (fLen 3), aP (pCmp fc_ne 7 4), aP (pLoadA 0 5), fCallV hdOut 0 [(13, 79)] 6, aP (pStA 2 7), aP (pLoadA 2 8), aP (pLoadI 3 9), aP (pLoadA 1 10), aM (fRst raTab 11), aP (pLoadA 0 12), aP (pLoadI 3 13), aP (pPush (.int 1) 14), aP (pBinI (· + ·) 15), aM (fPut [(13, 2)] (.int) 16), fRetV]
def cd_78 : List lI := cd_78_0
/-! java/util/ArrayList.grow()[Ljava/lang/Object; -/
def cd_79_0 : List lI := [aP (pLoadA 0 1), aP (pLoadA 0 2), aM (fGet [(13, 2)] 3), aP (pPush (.int 1) 4), aP (pBinI (· + ·) 5), fCallV hdOut 1 [(13, 80)] 6, fRetA]
def cd_79 : List lI := cd_79_0
/-! java/util/ArrayList.grow(I)[Ljava/lang/Object; -/
def cd_80_0 : List lI := [aP (pLoadA 0 1), aM (fGet [(13, 1)] 2), aM (fLen 3), aP (pStI 2 4), aP (pLoadI 2 5), aP (pIf fz_gt 10 6), aP (pLoadA 0 7), aM (fGet [(13, 1)] 8), aM (fEnv 19 9), aP (pAeq 27 10), aP (pLoadI 2 11), aP (pLoadI 1 12), aP (pLoadI 2 13), aP (pBinI (· - ·) 14), aP (pLoadI 2 15), aP (pPush (.int 1) 16), aP (pBinI (fun x y => x >>> (y &&& 31)) 17), fCall hdOut 3 36 18, aP (pStI 3 19), aP (pLoadA 0 20), aP (pLoadA 0 21), aM (fGet [(13, 1)] 22), aP (pLoadI 3 23), fCall hdOut 2 56 24, aP (pDupX1 25), aM (fPut [(13, 1)] (.array (.object "java/lang/Object")) 26), fRetA, aP (pLoadA 0 28), aP (pPush (.int 10) 29), aP (pLoadI 1 30), fCall hdOut 2 47 31, aM (fNewa 6 .null 32), aP (pDupX1 33), aM (fPut [(13, 1)] (.array (.object "java/lang/Object")) 34), fRetA]
def cd_80 : List lI := cd_80_0
/-! java/util/ArrayList.size()I -/
def cd_81_0 : List lI := [aP (pLoadA 0 1), aM (fGet [(13, 2)] 2), fRetI .int]
def cd_81 : List lI := cd_81_0
/-! java/util/ArrayList.iterator()Ljava/util/Iterator; -/
def cd_82_0 : List lI := [aM (fNew 14 [.int 0, .int 0, .int 0, .null] 1), aP (pDup 2), aP (pLoadA 0 3), fCallV hdOut 1 [(14, 89)] 4, fRetA]
def cd_82 : List lI := cd_82_0
/-! java/util/ArrayList.get(I)Ljava/lang/Object; -/
def cd_83_0 : List lI := [aP (pLoadI 1 1), aP (pLoadA 0 2), aM (fGet [(13, 2)] 3), fCall hdOut 2 93 4, aP (pPop 5), aP (pLoadA 0 6), aP (pLoadI 1 7), fCallV hdOut 1 [(13, 84)] 8, fRetA]
def cd_83 : List lI := cd_83_0
/-! java/util/ArrayList.elementData(I)Ljava/lang/Object; -/
def cd_84_0 : List lI := [aP (pLoadA 0 1), aM (fGet [(13, 1)] 2), aP (pLoadI 1 3), aM (fAld [6, 7, 8, 9, 10, 11] 4), fRetA]
def cd_84 : List lI := cd_84_0
/-! java/util/ArrayList.clear()V -/
def cd_85_0 : List lI := [aP (pLoadA 0 1), aP (pDup 2), aM (fGet [(13, 0)] 3), aP (pPush (.int 1) 4), aP (pBinI (· + ·) 5), aM (fPut [(13, 0)] (.int) 6), aP (pLoadA 0 7), aM (fGet [(13, 1)] 8), aP (pStA 1 9), aP (pLoadA 0 10), aM (fGet [(13, 2)] 11), aP (pStI 2 12), aP (pLoadA 0 13), aP (pPush (.int 0) 14), aP (pDupX1 15), aM (fPut [(13, 2)] (.int) 16), aP (pStI 3 17), aP (pLoadI 3 18), aP (pLoadI 2 19), aP (pCmp fc_ge 26 20), aP (pLoadA 1 21), aP (pLoadI 3 22), aP (pPush .null 23), aM (fRst raTab 24), aP (pInc 3 1 25), aP (pGoto 17), fRetV]
def cd_85 : List lI := cd_85_0
/-! java/util/ArrayList.addAll(Ljava/util/Collection;)Z -/
def cd_86_0 : List lI := [aP (pLoadA 1 1), fCallV hdOut 0 [(4, 26), (13, 87), (31, 1), (34, 1), (37, 209)] 2, aP (pStA 2 3), aP (pLoadA 0 4), aP (pDup 5), aM (fGet [(13, 0)] 6), aP (pPush (.int 1) 7), aP (pBinI (· + ·) 8), aM (fPut [(13, 0)] (.int) 9), aP (pLoadA 2 10), aM (fLen 11), aP (pStI 3 12), aP (pLoadI 3 13), aP (pIf fz_ne 16 14), aP (pPush (.int 0) 15), fRetI .boolean, aP (pLoadI 3 17), aP (pLoadA 0 18), aM (fGet [(13, 1)] 19), aP (pDup 20), aP (pStA 4 21), aM (fLen 22), aP (pLoadA 0 23), aM (fGet [(13, 2)] 24), aP (pDup 25), aP (pStI 5 26), aP (pBinI (· - ·) 27), aP (pCmp fc_le 34 28), aP (pLoadA 0 29), aP (pLoadI 5 30), aP (pLoadI 3 31), aP (pBinI (· + ·) 32), fCallV hdOut 1 [(13, 80)] 33, aP (pStA 4 34), aP (pLoadA 2 35), aP (pPush (.int 0) 36), aP (pLoadA 4 37), aP (pLoadI 5 38), aP (pLoadI 3 39), aM (fCopy lPrims raTab 40)]
def cd_86_1 : List lI := [aP (pLoadA 0 41), aP (pLoadI 5 42), aP (pLoadI 3 43), aP (pBinI (· + ·) 44), aM (fPut [(13, 2)] (.int) 45), aP (pPush (.int 1) 46), fRetI .boolean]
def cd_86 : List lI := cd_86_0 ++ (cd_86_1)
/-! java/util/ArrayList.toArray()[Ljava/lang/Object; -/
def cd_87_0 : List lI := [aP (pLoadA 0 1), aM (fGet [(13, 1)] 2), aP (pLoadA 0 3), aM (fGet [(13, 2)] 4), fCall hdOut 2 56 5, fRetA]
def cd_87 : List lI := cd_87_0
/-! java/util/ArrayList.isEmpty()Z -/
def cd_88_0 : List lI := [aP (pLoadA 0 1), aM (fGet [(13, 2)] 2), aP (pIf fz_ne 5 3), aP (pPush (.int 1) 4), aP (pGoto 6), aP (pPush (.int 0) 6), fRetI .boolean]
def cd_88 : List lI := cd_88_0
/-! java/util/ArrayList$Itr.<init>(Ljava/util/ArrayList;)V -/
def cd_89_0 : List lI := [aP (pLoadA 0 1), aP (pLoadA 1 2), aM (fPut [(14, 3)] (.object "java/util/ArrayList") 3), aP (pLoadA 0 4), fObj 5, aP (pLoadA 0 6), aP (pPush (.int (-1)) 7), aM (fPut [(14, 1)] (.int) 8), aP (pLoadA 0 9), aP (pLoadA 0 10), aM (fGet [(14, 3)] 11), aM (fGet [(13, 0)] 12), aM (fPut [(14, 2)] (.int) 13), fRetV]
def cd_89 : List lI := cd_89_0
/-! java/util/ArrayList$Itr.hasNext()Z -/
def cd_90_0 : List lI := [aP (pLoadA 0 1), aM (fGet [(14, 0)] 2), aP (pLoadA 0 3), aM (fGet [(14, 3)] 4), aM (fGet [(13, 2)] 5), aP (pCmp fc_eq 8 6), aP (pPush (.int 1) 7), aP (pGoto 9), aP (pPush (.int 0) 9), fRetI .boolean]
def cd_90 : List lI := cd_90_0
/-! java/util/ArrayList$Itr.next()Ljava/lang/Object; -/
def cd_91_0 : List lI := [aP (pLoadA 0 1), fCallV hdOut 0 [(14, 92)] 2, aP (pLoadA 0 3), aM (fGet [(14, 0)] 4), aP (pStI 1 5), aP (pLoadI 1 6), aP (pLoadA 0 7), aM (fGet [(14, 3)] 8), aM (fGet [(13, 2)] 9), aP (pCmp fc_lt 14 10), fStuck, aP (pDup 12), fStuck, fThrow hdOut, aP (pLoadA 0 15), aM (fGet [(14, 3)] 16), aM (fGet [(13, 1)] 17), aP (pStA 2 18), aP (pLoadI 1 19), aP (pLoadA 2 20), aM (fLen 21), aP (pCmp fc_lt 26 22), fStuck, aP (pDup 24), fStuck, fThrow hdOut, aP (pLoadA 0 27), aP (pLoadI 1 28), aP (pPush (.int 1) 29), aP (pBinI (· + ·) 30), aM (fPut [(14, 0)] (.int) 31), aP (pLoadA 2 32), aP (pLoadA 0 33), aP (pLoadI 1 34), aP (pDupX1 35), aM (fPut [(14, 1)] (.int) 36), aM (fAld [6, 7, 8, 9, 10, 11] 37), fRetA]
def cd_91 : List lI := cd_91_0
/-! java/util/ArrayList$Itr.checkForComodification()V -/
def cd_92_0 : List lI := [aP (pLoadA 0 1), aM (fGet [(14, 3)] 2), aM (fGet [(13, 0)] 3), aP (pLoadA 0 4), aM (fGet [(14, 2)] 5), aP (pCmp fc_eq 10 6), fStuck, aP (pDup 8), fStuck, fThrow hdOut, fRetV]
def cd_92 : List lI := cd_92_0
/-! java/util/Objects.checkIndex(II)I -/
def cd_93_0 : List lI := [aP (pLoadI 0 1), aP (pLoadI 1 2), aP (pPush .null 3), fCall hdOut 3 95 4, fRetI .int]
def cd_93 : List lI := cd_93_0
/-! java/util/Objects.requireNonNull(Ljava/lang/Object;)Ljava/lang/Object; -/
def cd_94_0 : List lI := [aP (pLoadA 0 1), aP (pNul 2 6), fStuck, aP (pDup 4), fStuck, fThrow hdOut, aP (pLoadA 0 7), fRetA]
def cd_94 : List lI := cd_94_0
/-! jdk/internal/util/Preconditions.checkIndex(IILjava/util/function/BiFunction;)I -/
def cd_95_0 : List lI := [aP (pLoadI 0 1), aP (pIf fz_lt 5 2), aP (pLoadI 0 3), aP (pLoadI 1 4), aP (pCmp fc_lt 10 5), aP (pLoadA 2 6), aP (pLoadI 0 7), aP (pLoadI 1 8), fStuck, fThrow hdOut, aP (pLoadI 0 11), fRetI .int]
def cd_95 : List lI := cd_95_0
/-! jdk/internal/util/Preconditions.checkFromToIndex(IIILjava/util/function/BiFunction;)I -/
def cd_96_0 : List lI := [aP (pLoadI 0 1), aP (pIf fz_lt 8 2), aP (pLoadI 0 3), aP (pLoadI 1 4), aP (pCmp fc_gt 8 5), aP (pLoadI 1 6), aP (pLoadI 2 7), aP (pCmp fc_le 14 8), aP (pLoadA 3 9), aP (pLoadI 0 10), aP (pLoadI 1 11), aP (pLoadI 2 12), fStuck, fThrow hdOut, aP (pLoadI 0 15), fRetI .int]
def cd_96 : List lI := cd_96_0
/-! jdk/internal/util/Preconditions.checkFromIndexSize(IIILjava/util/function/BiFunction;)I -/
def cd_97_0 : List lI := [aP (pLoadI 2 1), aP (pLoadI 0 2), aP (pBinI (· ||| ·) 3), aP (pLoadI 1 4), aP (pBinI (· ||| ·) 5), aP (pIf fz_lt 11 6), aP (pLoadI 1 7), aP (pLoadI 2 8), aP (pLoadI 0 9), aP (pBinI (· - ·) 10), aP (pCmp fc_le 17 11), aP (pLoadA 3 12), aP (pLoadI 0 13), aP (pLoadI 1 14), aP (pLoadI 2 15), fStuck, fThrow hdOut, aP (pLoadI 0 18), fRetI .int]
def cd_97 : List lI := cd_97_0
/-! java/lang/Record.<init>()V -/
def cd_98_0 : List lI := [aP (pLoadA 0 1), fObj 2, fRetV]
def cd_98 : List lI := cd_98_0
/-! java/lang/Number.<init>()V -/
def cd_99_0 : List lI := [aP (pLoadA 0 1), fObj 2, fRetV]
def cd_99 : List lI := cd_99_0
/-! java/lang/Integer.stringSize(I)I -/
def cd_100_0 : List lI := [aP (pPush (.int 1) 1), aP (pStI 1 2), aP (pLoadI 0 3), aP (pIf fz_lt 9 4), aP (pPush (.int 0) 5), aP (pStI 1 6), aP (pLoadI 0 7), aP (pUnI (fun x => -x) 8), aP (pStI 0 9), aP (pPush (.int (-10)) 10), aP (pStI 2 11), aP (pPush (.int 1) 12), aP (pStI 3 13), aP (pLoadI 3 14), aP (pPush (.int 10) 15), aP (pCmp fc_ge 29 16), aP (pLoadI 0 17), aP (pLoadI 2 18), aP (pCmp fc_le 23 19), aP (pLoadI 3 20), aP (pLoadI 1 21), aP (pBinI (· + ·) 22), fRetI .int, aP (pPush (.int 10) 24), aP (pLoadI 2 25), aP (pBinI (· * ·) 26), aP (pStI 2 27), aP (pInc 3 1 28), aP (pGoto 13), aP (pPush (.int 10) 30), aP (pLoadI 1 31), aP (pBinI (· + ·) 32), fRetI .int]
def cd_100 : List lI := cd_100_0
/-! java/lang/Integer.getChars(II[B)I -/
def cd_101_0 : List lI := [aP (pLoadI 1 1), aP (pStI 5 2), aP (pLoadI 0 3), aP (pIf fz_ge 6 4), aP (pPush (.int 1) 5), aP (pGoto 7), aP (pPush (.int 0) 7), aP (pStI 6 8), aP (pLoadI 6 9), aP (pIf fz_ne 13 10), aP (pLoadI 0 11), aP (pUnI (fun x => -x) 12), aP (pStI 0 13), aP (pLoadI 0 14), aP (pPush (.int (-100)) 15), aP (pCmp fc_gt 43 16), aP (pLoadI 0 17), aP (pPush (.int 100) 18), aP (pDivI (· / ·) 19), aP (pStI 3 20), aP (pLoadI 3 21), aP (pPush (.int 100) 22), aP (pBinI (· * ·) 23), aP (pLoadI 0 24), aP (pBinI (· - ·) 25), aP (pStI 4 26), aP (pLoadI 3 27), aP (pStI 0 28), aP (pLoadA 2 29), aP (pInc 5 (-1) 30), aP (pLoadI 5 31), aM (fEnv 20 32), aP (pLoadI 4 33), aM (fAld [2, 3] 34), aM (fBst 2 3 35), aP (pLoadA 2 36), aP (pInc 5 (-1) 37), aP (pLoadI 5 38), aM (fEnv 21 39), aP (pLoadI 4 40)]
def cd_101_1 : List lI := [aM (fAld [2, 3] 41), aM (fBst 2 3 42), aP (pGoto 13), aP (pLoadA 2 44), aP (pInc 5 (-1) 45), aP (pLoadI 5 46), aM (fEnv 20 47), aP (pLoadI 0 48), aP (pUnI (fun x => -x) 49), aM (fAld [2, 3] 50), aM (fBst 2 3 51), aP (pLoadI 0 52), aP (pPush (.int (-9)) 53), aP (pCmp fc_ge 62 54), aP (pLoadA 2 55), aP (pInc 5 (-1) 56), aP (pLoadI 5 57), aM (fEnv 21 58), aP (pLoadI 0 59), aP (pUnI (fun x => -x) 60), aM (fAld [2, 3] 61), aM (fBst 2 3 62), aP (pLoadI 6 63), aP (pIf fz_eq 69 64), aP (pLoadA 2 65), aP (pInc 5 (-1) 66), aP (pLoadI 5 67), aP (pPush (.int 45) 68), aM (fBst 2 3 69), aP (pLoadI 5 70), fRetI .int]
def cd_101 : List lI := cd_101_0 ++ (cd_101_1)
/-! java/lang/Integer.compare(II)I -/
def cd_102_0 : List lI := [aP (pLoadI 0 1), aP (pLoadI 1 2), aP (pCmp fc_ge 5 3), aP (pPush (.int (-1)) 4), aP (pGoto 11), aP (pLoadI 0 6), aP (pLoadI 1 7), aP (pCmp fc_ne 10 8), aP (pPush (.int 0) 9), aP (pGoto 11), aP (pPush (.int 1) 11), fRetI .int]
def cd_102 : List lI := cd_102_0
/-! java/lang/Integer.compareTo(Ljava/lang/Object;)I -/
def cd_103_0 : List lI := [aP (pLoadA 0 1), aP (pLoadA 1 2), aM (fCast [19] 3), fCallV hdOut 1 [(19, 104)] 4, fRetI .int]
def cd_103 : List lI := cd_103_0
/-! java/lang/Integer.compareTo(Ljava/lang/Integer;)I -/
def cd_104_0 : List lI := [aP (pLoadA 0 1), aM (fGet [(19, 0)] 2), aP (pLoadA 1 3), aM (fGet [(19, 0)] 4), fCall hdOut 2 102 5, fRetI .int]
def cd_104 : List lI := cd_104_0
/-! java/lang/Integer.numberOfLeadingZeros(I)I -/
def cd_105_0 : List lI := [aP (pLoadI 0 1), aP (pIf fz_gt 8 2), aP (pLoadI 0 3), aP (pIf fz_ne 6 4), aP (pPush (.int 32) 5), aP (pGoto 7), aP (pPush (.int 0) 7), fRetI .int, aP (pPush (.int 31) 9), aP (pStI 1 10), aP (pLoadI 0 11), aP (pPush (.int 65536) 12), aP (pCmp fc_lt 18 13), aP (pInc 1 (-16) 14), aP (pLoadI 0 15), aP (pPush (.int 16) 16), aP (pBinI (fun x y => (x.toUInt32 >>> (y.toUInt32 &&& Int32.toUInt32 31)).toInt32) 17), aP (pStI 0 18), aP (pLoadI 0 19), aP (pPush (.int 256) 20), aP (pCmp fc_lt 26 21), aP (pInc 1 (-8) 22), aP (pLoadI 0 23), aP (pPush (.int 8) 24), aP (pBinI (fun x y => (x.toUInt32 >>> (y.toUInt32 &&& Int32.toUInt32 31)).toInt32) 25), aP (pStI 0 26), aP (pLoadI 0 27), aP (pPush (.int 16) 28), aP (pCmp fc_lt 34 29), aP (pInc 1 (-4) 30), aP (pLoadI 0 31), aP (pPush (.int 4) 32), aP (pBinI (fun x y => (x.toUInt32 >>> (y.toUInt32 &&& Int32.toUInt32 31)).toInt32) 33), aP (pStI 0 34), aP (pLoadI 0 35), aP (pPush (.int 4) 36), aP (pCmp fc_lt 42 37), aP (pInc 1 (-2) 38), aP (pLoadI 0 39), aP (pPush (.int 2) 40)]
def cd_105_1 : List lI := [aP (pBinI (fun x y => (x.toUInt32 >>> (y.toUInt32 &&& Int32.toUInt32 31)).toInt32) 41), aP (pStI 0 42), aP (pLoadI 1 43), aP (pLoadI 0 44), aP (pPush (.int 1) 45), aP (pBinI (fun x y => (x.toUInt32 >>> (y.toUInt32 &&& Int32.toUInt32 31)).toInt32) 46), aP (pBinI (· - ·) 47), fRetI .int]
def cd_105 : List lI := cd_105_0 ++ (cd_105_1)
/-! java/lang/Integer.numberOfTrailingZeros(I)I -/
def cd_106_0 : List lI := [aP (pLoadI 0 1), aP (pPush (.int (-1)) 2), aP (pBinI (· ^^^ ·) 3), aP (pLoadI 0 4), aP (pPush (.int 1) 5), aP (pBinI (· - ·) 6), aP (pBinI (· &&& ·) 7), aP (pStI 0 8), aP (pLoadI 0 9), aP (pIf fz_gt 14 10), aP (pLoadI 0 11), aP (pPush (.int 32) 12), aP (pBinI (· &&& ·) 13), fRetI .int, aP (pPush (.int 1) 15), aP (pStI 1 16), aP (pLoadI 0 17), aP (pPush (.int 65536) 18), aP (pCmp fc_le 24 19), aP (pInc 1 16 20), aP (pLoadI 0 21), aP (pPush (.int 16) 22), aP (pBinI (fun x y => (x.toUInt32 >>> (y.toUInt32 &&& Int32.toUInt32 31)).toInt32) 23), aP (pStI 0 24), aP (pLoadI 0 25), aP (pPush (.int 256) 26), aP (pCmp fc_le 32 27), aP (pInc 1 8 28), aP (pLoadI 0 29), aP (pPush (.int 8) 30), aP (pBinI (fun x y => (x.toUInt32 >>> (y.toUInt32 &&& Int32.toUInt32 31)).toInt32) 31), aP (pStI 0 32), aP (pLoadI 0 33), aP (pPush (.int 16) 34), aP (pCmp fc_le 40 35), aP (pInc 1 4 36), aP (pLoadI 0 37), aP (pPush (.int 4) 38), aP (pBinI (fun x y => (x.toUInt32 >>> (y.toUInt32 &&& Int32.toUInt32 31)).toInt32) 39), aP (pStI 0 40)]
def cd_106_1 : List lI := [aP (pLoadI 0 41), aP (pPush (.int 4) 42), aP (pCmp fc_le 48 43), aP (pInc 1 2 44), aP (pLoadI 0 45), aP (pPush (.int 2) 46), aP (pBinI (fun x y => (x.toUInt32 >>> (y.toUInt32 &&& Int32.toUInt32 31)).toInt32) 47), aP (pStI 0 48), aP (pLoadI 1 49), aP (pLoadI 0 50), aP (pPush (.int 1) 51), aP (pBinI (fun x y => (x.toUInt32 >>> (y.toUInt32 &&& Int32.toUInt32 31)).toInt32) 52), aP (pBinI (· + ·) 53), fRetI .int]
def cd_106 : List lI := cd_106_0 ++ (cd_106_1)
/-! java/lang/Integer.valueOf(I)Ljava/lang/Integer; -/
def cd_107_0 : List lI := [aP (pLoadI 0 1), aP (pPush (.int (-128)) 2), aP (pCmp fc_lt 12 3), aP (pLoadI 0 4), aM (fEnv 22 5), aP (pCmp fc_gt 12 6), aM (fEnv 23 7), aP (pLoadI 0 8), aP (pPush (.int 128) 9), aP (pBinI (· + ·) 10), aM (fAld [6, 7, 8, 9, 10, 11] 11), fRetA, aM (fNew 19 [.int 0] 13), aP (pDup 14), aP (pLoadI 0 15), fCallV hdOut 1 [(19, 108)] 16, fRetA]
def cd_107 : List lI := cd_107_0
/-! java/lang/Integer.<init>(I)V -/
def cd_108_0 : List lI := [aP (pLoadA 0 1), fCallV hdOut 0 [(18, 99), (19, 99), (20, 99)] 2, aP (pLoadA 0 3), aP (pLoadI 1 4), aM (fPut [(19, 0)] (.int) 5), fRetV]
def cd_108 : List lI := cd_108_0
/-! java/lang/Integer.intValue()I -/
def cd_109_0 : List lI := [aP (pLoadA 0 1), aM (fGet [(19, 0)] 2), fRetI .int]
def cd_109 : List lI := cd_109_0
/-! java/lang/Integer.bitCount(I)I -/
def cd_110_0 : List lI := [aP (pLoadI 0 1), aP (pLoadI 0 2), aP (pPush (.int 1) 3), aP (pBinI (fun x y => (x.toUInt32 >>> (y.toUInt32 &&& Int32.toUInt32 31)).toInt32) 4), aP (pPush (.int 1431655765) 5), aP (pBinI (· &&& ·) 6), aP (pBinI (· - ·) 7), aP (pStI 0 8), aP (pLoadI 0 9), aP (pPush (.int 858993459) 10), aP (pBinI (· &&& ·) 11), aP (pLoadI 0 12), aP (pPush (.int 2) 13), aP (pBinI (fun x y => (x.toUInt32 >>> (y.toUInt32 &&& Int32.toUInt32 31)).toInt32) 14), aP (pPush (.int 858993459) 15), aP (pBinI (· &&& ·) 16), aP (pBinI (· + ·) 17), aP (pStI 0 18), aP (pLoadI 0 19), aP (pLoadI 0 20), aP (pPush (.int 4) 21), aP (pBinI (fun x y => (x.toUInt32 >>> (y.toUInt32 &&& Int32.toUInt32 31)).toInt32) 22), aP (pBinI (· + ·) 23), aP (pPush (.int 252645135) 24), aP (pBinI (· &&& ·) 25), aP (pStI 0 26), aP (pLoadI 0 27), aP (pLoadI 0 28), aP (pPush (.int 8) 29), aP (pBinI (fun x y => (x.toUInt32 >>> (y.toUInt32 &&& Int32.toUInt32 31)).toInt32) 30), aP (pBinI (· + ·) 31), aP (pStI 0 32), aP (pLoadI 0 33), aP (pLoadI 0 34), aP (pPush (.int 16) 35), aP (pBinI (fun x y => (x.toUInt32 >>> (y.toUInt32 &&& Int32.toUInt32 31)).toInt32) 36), aP (pBinI (· + ·) 37), aP (pStI 0 38), aP (pLoadI 0 39), aP (pPush (.int 63) 40)]
def cd_110_1 : List lI := [aP (pBinI (· &&& ·) 41), fRetI .int]
def cd_110 : List lI := cd_110_0 ++ (cd_110_1)
/-! java/lang/Long.compareTo(Ljava/lang/Object;)I -/
def cd_111_0 : List lI := [aP (pLoadA 0 1), aP (pLoadA 1 2), aM (fCast [20] 3), fCallV hdOut 1 [(20, 112)] 4, fRetI .int]
def cd_111 : List lI := cd_111_0
/-! java/lang/Long.compareTo(Ljava/lang/Long;)I -/
def cd_112_0 : List lI := [aP (pLoadA 0 1), aM (fGet [(20, 0)] 2), aP (pLoadA 1 3), aM (fGet [(20, 0)] 4), fCall hdOut 2 113 5, fRetI .int]
def cd_112 : List lI := cd_112_0
/-! java/lang/Long.compare(JJ)I -/
def cd_113_0 : List lI := [aP (pLoadL 0 1), aP (pLoadL 2 2), aP (pLcmp 3), aP (pIf fz_ge 6 4), aP (pPush (.int (-1)) 5), aP (pGoto 13), aP (pLoadL 0 7), aP (pLoadL 2 8), aP (pLcmp 9), aP (pIf fz_ne 12 10), aP (pPush (.int 0) 11), aP (pGoto 13), aP (pPush (.int 1) 13), fRetI .int]
def cd_113 : List lI := cd_113_0
/-! java/lang/Long.numberOfLeadingZeros(J)I -/
def cd_114_0 : List lI := [aP (pLoadL 0 1), aP (pPush (.int 32) 2), aP (pShL (fun x y => (x.toUInt64 >>> (y.toInt64.toUInt64 &&& Int64.toUInt64 63)).toInt64) 3), aP (pL2I 4), aP (pStI 2 5), aP (pLoadI 2 6), aP (pIf fz_ne 13 7), aP (pPush (.int 32) 8), aP (pLoadL 0 9), aP (pL2I 10), fCall hdOut 1 105 11, aP (pBinI (· + ·) 12), aP (pGoto 15), aP (pLoadI 2 14), fCall hdOut 1 105 15, fRetI .int]
def cd_114 : List lI := cd_114_0
/-! java/lang/Long.numberOfTrailingZeros(J)I -/
def cd_115_0 : List lI := [aP (pLoadL 0 1), aP (pL2I 2), aP (pStI 2 3), aP (pLoadI 2 4), aP (pIf fz_ne 13 5), aP (pPush (.int 32) 6), aP (pLoadL 0 7), aP (pPush (.int 32) 8), aP (pShL (fun x y => (x.toUInt64 >>> (y.toInt64.toUInt64 &&& Int64.toUInt64 63)).toInt64) 9), aP (pL2I 10), fCall hdOut 1 106 11, aP (pBinI (· + ·) 12), aP (pGoto 15), aP (pLoadI 2 14), fCall hdOut 1 106 15, fRetI .int]
def cd_115 : List lI := cd_115_0
/-! java/lang/Long.valueOf(J)Ljava/lang/Long; -/
def cd_116_0 : List lI := [aP (pPush (.int 128) 1), aP (pStI 2 2), aP (pLoadL 0 3), aP (pPush (.long (-128)) 4), aP (pLcmp 5), aP (pIf fz_lt 17 6), aP (pLoadL 0 7), aP (pPush (.long 127) 8), aP (pLcmp 9), aP (pIf fz_gt 17 10), aM (fEnv 24 11), aP (pLoadL 0 12), aP (pL2I 13), aP (pPush (.int 128) 14), aP (pBinI (· + ·) 15), aM (fAld [6, 7, 8, 9, 10, 11] 16), fRetA, aM (fNew 20 [.long 0] 18), aP (pDup 19), aP (pLoadL 0 20), fCallV hdOut 1 [(20, 117)] 21, fRetA]
def cd_116 : List lI := cd_116_0
/-! java/lang/Long.<init>(J)V -/
def cd_117_0 : List lI := [aP (pLoadA 0 1), fCallV hdOut 0 [(18, 99), (19, 99), (20, 99)] 2, aP (pLoadA 0 3), aP (pLoadL 1 4), aM (fPut [(20, 0)] (.long) 5), fRetV]
def cd_117 : List lI := cd_117_0
/-! java/lang/Long.bitCount(J)I -/
def cd_118_0 : List lI := [aP (pLoadL 0 1), aP (pLoadL 0 2), aP (pPush (.int 1) 3), aP (pShL (fun x y => (x.toUInt64 >>> (y.toInt64.toUInt64 &&& Int64.toUInt64 63)).toInt64) 4), aP (pPush (.long 6148914691236517205) 5), aP (pBinL (· &&& ·) 6), aP (pBinL (· - ·) 7), aP (pStL 0 8), aP (pLoadL 0 9), aP (pPush (.long 3689348814741910323) 10), aP (pBinL (· &&& ·) 11), aP (pLoadL 0 12), aP (pPush (.int 2) 13), aP (pShL (fun x y => (x.toUInt64 >>> (y.toInt64.toUInt64 &&& Int64.toUInt64 63)).toInt64) 14), aP (pPush (.long 3689348814741910323) 15), aP (pBinL (· &&& ·) 16), aP (pBinL (· + ·) 17), aP (pStL 0 18), aP (pLoadL 0 19), aP (pLoadL 0 20), aP (pPush (.int 4) 21), aP (pShL (fun x y => (x.toUInt64 >>> (y.toInt64.toUInt64 &&& Int64.toUInt64 63)).toInt64) 22), aP (pBinL (· + ·) 23), aP (pPush (.long 1085102592571150095) 24), aP (pBinL (· &&& ·) 25), aP (pStL 0 26), aP (pLoadL 0 27), aP (pLoadL 0 28), aP (pPush (.int 8) 29), aP (pShL (fun x y => (x.toUInt64 >>> (y.toInt64.toUInt64 &&& Int64.toUInt64 63)).toInt64) 30), aP (pBinL (· + ·) 31), aP (pStL 0 32), aP (pLoadL 0 33), aP (pLoadL 0 34), aP (pPush (.int 16) 35), aP (pShL (fun x y => (x.toUInt64 >>> (y.toInt64.toUInt64 &&& Int64.toUInt64 63)).toInt64) 36), aP (pBinL (· + ·) 37), aP (pStL 0 38), aP (pLoadL 0 39), aP (pLoadL 0 40)]
def cd_118_1 : List lI := [aP (pPush (.int 32) 41), aP (pShL (fun x y => (x.toUInt64 >>> (y.toInt64.toUInt64 &&& Int64.toUInt64 63)).toInt64) 42), aP (pBinL (· + ·) 43), aP (pStL 0 44), aP (pLoadL 0 45), aP (pL2I 46), aP (pPush (.int 127) 47), aP (pBinI (· &&& ·) 48), fRetI .int]
def cd_118 : List lI := cd_118_0 ++ (cd_118_1)
/-! java/lang/StringLatin1.indexOf([BIII)I -/
def cd_119_0 : List lI := [aP (pLoadI 1 1), fCall hdOut 1 120 2, aP (pIf fz_ne 5 3), aP (pPush (.int (-1)) 4), fRetI .int, aP (pLoadI 2 6), aP (pPush (.int 0) 7), fCall hdOut 2 47 8, aP (pStI 2 9), aP (pLoadI 3 10), aP (pLoadA 0 11), aM (fLen 12), fCall hdOut 2 48 13, aP (pStI 3 14), aP (pLoadI 2 15), aP (pLoadI 3 16), aP (pCmp fc_lt 19 17), aP (pPush (.int (-1)) 18), fRetI .int, aP (pLoadA 0 20), aP (pLoadI 1 21), aP (pLoadI 2 22), aP (pLoadI 3 23), fCall hdOut 4 121 24, fRetI .int]
def cd_119 : List lI := cd_119_0
/-! java/lang/StringLatin1.canEncode(I)Z -/
def cd_120_0 : List lI := [aP (pLoadI 0 1), aP (pIf fz_lt 7 2), aP (pLoadI 0 3), aP (pPush (.int 255) 4), aP (pCmp fc_gt 7 5), aP (pPush (.int 1) 6), aP (pGoto 8), aP (pPush (.int 0) 8), fRetI .boolean]
def cd_120 : List lI := cd_120_0
/-! java/lang/StringLatin1.indexOfChar([BIII)I -/
def cd_121_0 : List lI := [aP (pLoadI 1 1), aP (pUnI (fun x => x.toInt8.toInt32) 2), aP (pStI 4 3), aP (pLoadI 2 4), aP (pStI 5 5), aP (pLoadI 5 6), aP (pLoadI 3 7), aP (pCmp fc_ge 17 8), aP (pLoadA 0 9), aP (pLoadI 5 10), aM (fAld [2, 3] 11), aP (pLoadI 4 12), aP (pCmp fc_ne 15 13), aP (pLoadI 5 14), fRetI .int, aP (pInc 5 1 16), aP (pGoto 5), aP (pPush (.int (-1)) 18), fRetI .int]
def cd_121 : List lI := cd_121_0
/-! java/lang/StringLatin1.newString([BII)Ljava/lang/String; -/
def cd_122_0 : List lI := [aP (pLoadI 2 1), aP (pIf fz_ne 4 2), aM (fEnv 25 3), fRetA, aM (fNew 0 [.null, .int 0, .int 0, .int 0] 5), aP (pDup 6), aP (pLoadA 0 7), aP (pLoadI 1 8), aP (pLoadI 1 9), aP (pLoadI 2 10), aP (pBinI (· + ·) 11), fCall hdOut 3 58 12, aP (pPush (.int 0) 13), fCallV hdOut 2 [(0, 236)] 14, fRetA]
def cd_122 : List lI := cd_122_0
/-! java/lang/StringLatin1.inflate([BI[BII)V -/
def cd_123_0 : List lI := [aP (pLoadA 0 1), aP (pLoadI 1 2), aP (pLoadA 2 3), aP (pLoadI 3 4), aP (pLoadI 4 5), fCall hdOut 5 257 6, fRetV]
def cd_123 : List lI := cd_123_0
/-! java/lang/StringLatin1.charAt([BI)C -/
def cd_124_0 : List lI := [aP (pLoadI 1 1), aP (pLoadA 0 2), aM (fLen 3), fCall hdOut 2 225 4, aP (pLoadA 0 5), aP (pLoadI 1 6), aM (fAld [2, 3] 7), aP (pPush (.int 255) 8), aP (pBinI (· &&& ·) 9), aP (pUnI (fun x => (x.toUInt32 % 65536).toInt32) 10), fRetI .char]
def cd_124 : List lI := cd_124_0
/-! java/lang/StringLatin1.equals([B[B)Z -/
def cd_125_0 : List lI := [aP (pLoadA 0 1), aM (fLen 2), aP (pLoadA 1 3), aM (fLen 4), aP (pCmp fc_ne 24 5), aP (pPush (.int 0) 6), aP (pStI 2 7), aP (pLoadI 2 8), aP (pLoadA 0 9), aM (fLen 10), aP (pCmp fc_ge 22 11), aP (pLoadA 0 12), aP (pLoadI 2 13), aM (fAld [2, 3] 14), aP (pLoadA 1 15), aP (pLoadI 2 16), aM (fAld [2, 3] 17), aP (pCmp fc_eq 20 18), aP (pPush (.int 0) 19), fRetI .boolean, aP (pInc 2 1 21), aP (pGoto 7), aP (pPush (.int 1) 23), fRetI .boolean, aP (pPush (.int 0) 25), fRetI .boolean]
def cd_125 : List lI := cd_125_0
/-! java/lang/StringLatin1.fillNull([BII)V -/
def cd_126_0 : List lI := [aP (pLoadA 0 1), aP (pLoadI 1 2), aP (pLoadI 2 3), aP (pPush (.int 0) 4), fCall hdOut 4 62 5, fRetV]
def cd_126 : List lI := cd_126_0
/-! java/lang/StringLatin1.compareTo([B[B)I -/
def cd_127_0 : List lI := [aP (pLoadA 0 1), aM (fLen 2), aP (pStI 2 3), aP (pLoadA 1 4), aM (fLen 5), aP (pStI 3 6), aP (pLoadA 0 7), aP (pLoadA 1 8), aP (pLoadI 2 9), aP (pLoadI 3 10), fCall hdOut 4 128 11, fRetI .int]
def cd_127 : List lI := cd_127_0
/-! java/lang/StringLatin1.compareTo([B[BII)I -/
def cd_128_0 : List lI := [aP (pLoadI 2 1), aP (pLoadI 3 2), fCall hdOut 2 48 3, aP (pStI 4 4), aP (pLoadA 0 5), aP (pLoadA 1 6), aP (pLoadI 4 7), fCall hdOut 3 38 8, aP (pStI 5 9), aP (pLoadI 5 10), aP (pIf fz_ge 15 11), aP (pLoadI 2 12), aP (pLoadI 3 13), aP (pBinI (· - ·) 14), aP (pGoto 22), aP (pLoadA 0 16), aP (pLoadI 5 17), fCall hdOut 2 129 18, aP (pLoadA 1 19), aP (pLoadI 5 20), fCall hdOut 2 129 21, aP (pBinI (· - ·) 22), fRetI .int]
def cd_128 : List lI := cd_128_0
/-! java/lang/StringLatin1.getChar([BI)C -/
def cd_129_0 : List lI := [aP (pLoadA 0 1), aP (pLoadI 1 2), aM (fAld [2, 3] 3), aP (pPush (.int 255) 4), aP (pBinI (· &&& ·) 5), aP (pUnI (fun x => (x.toUInt32 % 65536).toInt32) 6), fRetI .char]
def cd_129 : List lI := cd_129_0
/-! java/lang/StringLatin1.compareToUTF16([B[B)I -/
def cd_130_0 : List lI := [aP (pLoadA 0 1), fCall hdOut 1 131 2, aP (pStI 2 3), aP (pLoadA 1 4), fCall hdOut 1 247 5, aP (pStI 3 6), aP (pLoadA 0 7), aP (pLoadA 1 8), aP (pLoadI 2 9), aP (pLoadI 3 10), fCall hdOut 4 132 11, fRetI .int]
def cd_130 : List lI := cd_130_0
/-! java/lang/StringLatin1.length([B)I -/
def cd_131_0 : List lI := [aP (pLoadA 0 1), aM (fLen 2), fRetI .int]
def cd_131 : List lI := cd_131_0
/-! java/lang/StringLatin1.compareToUTF16Values([B[BII)I -/
def cd_132_0 : List lI := [aP (pLoadI 2 1), aP (pLoadI 3 2), fCall hdOut 2 48 3, aP (pStI 4 4), aP (pPush (.int 0) 5), aP (pStI 5 6), aP (pLoadI 5 7), aP (pLoadI 4 8), aP (pCmp fc_ge 26 9), aP (pLoadA 0 10), aP (pLoadI 5 11), fCall hdOut 2 129 12, aP (pStI 6 13), aP (pLoadA 1 14), aP (pLoadI 5 15), fCall hdOut 2 246 16, aP (pStI 7 17), aP (pLoadI 6 18), aP (pLoadI 7 19), aP (pCmp fc_eq 24 20), aP (pLoadI 6 21), aP (pLoadI 7 22), aP (pBinI (· - ·) 23), fRetI .int, aP (pInc 5 1 25), aP (pGoto 6), aP (pLoadI 2 27), aP (pLoadI 3 28), aP (pBinI (· - ·) 29), fRetI .int]
def cd_132 : List lI := cd_132_0
/-! java/lang/StringLatin1.compareToUTF16([B[BII)I -/
def cd_133_0 : List lI := [aP (pLoadI 2 1), aP (pLoadA 0 2), fCall hdOut 1 131 3, fCall hdOut 2 242 4, aP (pLoadI 3 5), aP (pLoadA 1 6), fCall hdOut 1 247 7, fCall hdOut 2 242 8, aP (pLoadA 0 9), aP (pLoadA 1 10), aP (pLoadI 2 11), aP (pLoadI 3 12), fCall hdOut 4 132 13, fRetI .int]
def cd_133 : List lI := cd_133_0
/-! java/lang/StringLatin1.canEncode(C)Z -/
def cd_134_0 : List lI := [aP (pLoadI 0 1), aP (pPush (.int 255) 2), aP (pCmp fc_gt 5 3), aP (pPush (.int 1) 4), aP (pGoto 6), aP (pPush (.int 0) 6), fRetI .boolean]
def cd_134 : List lI := cd_134_0
/-! java/lang/StringLatin1.hashCode([B)I -/
def cd_135_0 : List lI := [aP (pLoadA 0 1), aM (fLen 2), aP (pSw (swL [(0, 3), (1, 5)] 11)), aP (pPush (.int 0) 4), aP (pGoto 18), aP (pLoadA 0 6), aP (pPush (.int 0) 7), aM (fAld [2, 3] 8), aP (pPush (.int 255) 9), aP (pBinI (· &&& ·) 10), aP (pGoto 18), aP (pLoadA 0 12), aP (pPush (.int 0) 13), aP (pLoadA 0 14), aM (fLen 15), aP (pPush (.int 0) 16), aP (pPush (.int 4) 17), fCall hdOut 5 40 18, fRetI .int]
def cd_135 : List lI := cd_135_0
/-! jdk/internal/misc/Unsafe.getLongUnaligned(Ljava/lang/Object;J)J -/
def cd_136_0 : List lI := [aP (pLoadL 2 1), aP (pPush (.long 7) 2), aP (pBinL (· &&& ·) 3), aP (pPush (.long 0) 4), aP (pLcmp 5), aP (pIf fz_ne 11 6), aP (pLoadA 0 7), aP (pLoadA 1 8), aP (pLoadL 2 9), fStuck, fRetL, aP (pLoadL 2 12), aP (pPush (.long 3) 13), aP (pBinL (· &&& ·) 14), aP (pPush (.long 0) 15), aP (pLcmp 16), aP (pIf fz_ne 29 17), aP (pLoadA 0 18), aP (pLoadA 1 19), aP (pLoadL 2 20), fStuck, aP (pLoadA 0 22), aP (pLoadA 1 23), aP (pLoadL 2 24), aP (pPush (.long 4) 25), aP (pBinL (· + ·) 26), fStuck, fStuck, fRetL, aP (pLoadL 2 30), aP (pPush (.long 1) 31), aP (pBinL (· &&& ·) 32), aP (pPush (.long 0) 33), aP (pLcmp 34), aP (pIf fz_ne 59 35), aP (pLoadA 0 36), aP (pLoadA 1 37), aP (pLoadL 2 38), fStuck, aP (pLoadA 0 40)]
def cd_136_1 : List lI := [aP (pLoadA 1 41), aP (pLoadL 2 42), aP (pPush (.long 2) 43), aP (pBinL (· + ·) 44), fStuck, aP (pLoadA 0 46), aP (pLoadA 1 47), aP (pLoadL 2 48), aP (pPush (.long 4) 49), aP (pBinL (· + ·) 50), fStuck, aP (pLoadA 0 52), aP (pLoadA 1 53), aP (pLoadL 2 54), aP (pPush (.long 6) 55), aP (pBinL (· + ·) 56), fStuck, fStuck, fRetL, aP (pLoadA 0 60), aP (pLoadA 1 61), aP (pLoadL 2 62), fStuck, aP (pLoadA 0 64), aP (pLoadA 1 65), aP (pLoadL 2 66), aP (pPush (.long 1) 67), aP (pBinL (· + ·) 68), fStuck, aP (pLoadA 0 70), aP (pLoadA 1 71), aP (pLoadL 2 72), aP (pPush (.long 2) 73), aP (pBinL (· + ·) 74), fStuck, aP (pLoadA 0 76), aP (pLoadA 1 77), aP (pLoadL 2 78), aP (pPush (.long 3) 79), aP (pBinL (· + ·) 80)]
def cd_136_2 : List lI := [fStuck, aP (pLoadA 0 82), aP (pLoadA 1 83), aP (pLoadL 2 84), aP (pPush (.long 4) 85), aP (pBinL (· + ·) 86), fStuck, aP (pLoadA 0 88), aP (pLoadA 1 89), aP (pLoadL 2 90), aP (pPush (.long 5) 91), aP (pBinL (· + ·) 92), fStuck, aP (pLoadA 0 94), aP (pLoadA 1 95), aP (pLoadL 2 96), aP (pPush (.long 6) 97), aP (pBinL (· + ·) 98), fStuck, aP (pLoadA 0 100), aP (pLoadA 1 101), aP (pLoadL 2 102), aP (pPush (.long 7) 103), aP (pBinL (· + ·) 104), fStuck, fStuck, fRetL]
def cd_136 : List lI := cd_136_0 ++ (cd_136_1 ++ (cd_136_2))
/-! jdk/internal/misc/Unsafe.makeLong(II)J -/
def cd_137_0 : List lI := [aP (pLoadI 0 1), fStuck, aP (pPush (.int 32) 3), aP (pPush (.int 0) 4), fStuck, aP (pShL (fun x y => x <<< (y.toInt64 &&& 63)) 6), aP (pLoadI 1 7), fStuck, aP (pPush (.int 32) 9), aP (pPush (.int 32) 10), fStuck, aP (pShL (fun x y => x <<< (y.toInt64 &&& 63)) 12), aP (pBinL (· ||| ·) 13), fRetL]
def cd_137 : List lI := cd_137_0
/-! jdk/internal/misc/Unsafe.toUnsignedLong(I)J -/
def cd_138_0 : List lI := [aP (pLoadI 0 1), aP (pI2L 2), aP (pPush (.long 4294967295) 3), aP (pBinL (· &&& ·) 4), fRetL]
def cd_138 : List lI := cd_138_0
/-! jdk/internal/misc/Unsafe.pickPos(II)I -/
def cd_139_0 : List lI := [aM (fEnv 26 1), aP (pIf fz_eq 6 2), aP (pLoadI 0 3), aP (pLoadI 1 4), aP (pBinI (· - ·) 5), aP (pGoto 7), aP (pLoadI 1 7), fRetI .int]
def cd_139 : List lI := cd_139_0
/-! jdk/internal/misc/Unsafe.makeLong(SSSS)J -/
def cd_140_0 : List lI := [aP (pLoadI 0 1), fStuck, aP (pPush (.int 48) 3), aP (pPush (.int 0) 4), fStuck, aP (pShL (fun x y => x <<< (y.toInt64 &&& 63)) 6), aP (pLoadI 1 7), fStuck, aP (pPush (.int 48) 9), aP (pPush (.int 16) 10), fStuck, aP (pShL (fun x y => x <<< (y.toInt64 &&& 63)) 12), aP (pBinL (· ||| ·) 13), aP (pLoadI 2 14), fStuck, aP (pPush (.int 48) 16), aP (pPush (.int 32) 17), fStuck, aP (pShL (fun x y => x <<< (y.toInt64 &&& 63)) 19), aP (pBinL (· ||| ·) 20), aP (pLoadI 3 21), fStuck, aP (pPush (.int 48) 23), aP (pPush (.int 48) 24), fStuck, aP (pShL (fun x y => x <<< (y.toInt64 &&& 63)) 26), aP (pBinL (· ||| ·) 27), fRetL]
def cd_140 : List lI := cd_140_0
/-! jdk/internal/misc/Unsafe.toUnsignedLong(S)J -/
def cd_141_0 : List lI := [aP (pLoadI 0 1), aP (pI2L 2), aP (pPush (.long 65535) 3), aP (pBinL (· &&& ·) 4), fRetL]
def cd_141 : List lI := cd_141_0
/-! jdk/internal/misc/Unsafe.makeLong(BBBBBBBB)J -/
def cd_142_0 : List lI := [aP (pLoadI 0 1), fStuck, aP (pPush (.int 56) 3), aP (pPush (.int 0) 4), fStuck, aP (pShL (fun x y => x <<< (y.toInt64 &&& 63)) 6), aP (pLoadI 1 7), fStuck, aP (pPush (.int 56) 9), aP (pPush (.int 8) 10), fStuck, aP (pShL (fun x y => x <<< (y.toInt64 &&& 63)) 12), aP (pBinL (· ||| ·) 13), aP (pLoadI 2 14), fStuck, aP (pPush (.int 56) 16), aP (pPush (.int 16) 17), fStuck, aP (pShL (fun x y => x <<< (y.toInt64 &&& 63)) 19), aP (pBinL (· ||| ·) 20), aP (pLoadI 3 21), fStuck, aP (pPush (.int 56) 23), aP (pPush (.int 24) 24), fStuck, aP (pShL (fun x y => x <<< (y.toInt64 &&& 63)) 26), aP (pBinL (· ||| ·) 27), aP (pLoadI 4 28), fStuck, aP (pPush (.int 56) 30), aP (pPush (.int 32) 31), fStuck, aP (pShL (fun x y => x <<< (y.toInt64 &&& 63)) 33), aP (pBinL (· ||| ·) 34), aP (pLoadI 5 35), fStuck, aP (pPush (.int 56) 37), aP (pPush (.int 40) 38), fStuck, aP (pShL (fun x y => x <<< (y.toInt64 &&& 63)) 40)]
def cd_142_1 : List lI := [aP (pBinL (· ||| ·) 41), aP (pLoadI 6 42), fStuck, aP (pPush (.int 56) 44), aP (pPush (.int 48) 45), fStuck, aP (pShL (fun x y => x <<< (y.toInt64 &&& 63)) 47), aP (pBinL (· ||| ·) 48), aP (pLoadI 7 49), fStuck, aP (pPush (.int 56) 51), aP (pPush (.int 56) 52), fStuck, aP (pShL (fun x y => x <<< (y.toInt64 &&& 63)) 54), aP (pBinL (· ||| ·) 55), fRetL]
def cd_142 : List lI := cd_142_0 ++ (cd_142_1)
/-! jdk/internal/misc/Unsafe.toUnsignedLong(B)J -/
def cd_143_0 : List lI := [aP (pLoadI 0 1), aP (pI2L 2), aP (pPush (.long 255) 3), aP (pBinL (· &&& ·) 4), fRetL]
def cd_143 : List lI := cd_143_0
/-! jdk/internal/misc/Unsafe.getIntUnaligned(Ljava/lang/Object;J)I -/
def cd_144_0 : List lI := [aP (pLoadL 2 1), aP (pPush (.long 3) 2), aP (pBinL (· &&& ·) 3), aP (pPush (.long 0) 4), aP (pLcmp 5), aP (pIf fz_ne 11 6), aP (pLoadA 0 7), aP (pLoadA 1 8), aP (pLoadL 2 9), fStuck, fRetI .int, aP (pLoadL 2 12), aP (pPush (.long 1) 13), aP (pBinL (· &&& ·) 14), aP (pPush (.long 0) 15), aP (pLcmp 16), aP (pIf fz_ne 29 17), aP (pLoadA 0 18), aP (pLoadA 1 19), aP (pLoadL 2 20), fStuck, aP (pLoadA 0 22), aP (pLoadA 1 23), aP (pLoadL 2 24), aP (pPush (.long 2) 25), aP (pBinL (· + ·) 26), fStuck, fStuck, fRetI .int, aP (pLoadA 0 30), aP (pLoadA 1 31), aP (pLoadL 2 32), fStuck, aP (pLoadA 0 34), aP (pLoadA 1 35), aP (pLoadL 2 36), aP (pPush (.long 1) 37), aP (pBinL (· + ·) 38), fStuck, aP (pLoadA 0 40)]
def cd_144_1 : List lI := [aP (pLoadA 1 41), aP (pLoadL 2 42), aP (pPush (.long 2) 43), aP (pBinL (· + ·) 44), fStuck, aP (pLoadA 0 46), aP (pLoadA 1 47), aP (pLoadL 2 48), aP (pPush (.long 3) 49), aP (pBinL (· + ·) 50), fStuck, fStuck, fRetI .int]
def cd_144 : List lI := cd_144_0 ++ (cd_144_1)
/-! jdk/internal/misc/Unsafe.makeInt(SS)I -/
def cd_145_0 : List lI := [aP (pLoadI 0 1), fStuck, aP (pPush (.int 16) 3), aP (pPush (.int 0) 4), fStuck, aP (pBinI (fun x y => x <<< (y &&& 31)) 6), aP (pLoadI 1 7), fStuck, aP (pPush (.int 16) 9), aP (pPush (.int 16) 10), fStuck, aP (pBinI (fun x y => x <<< (y &&& 31)) 12), aP (pBinI (· ||| ·) 13), fRetI .int]
def cd_145 : List lI := cd_145_0
/-! jdk/internal/misc/Unsafe.toUnsignedInt(S)I -/
def cd_146_0 : List lI := [aP (pLoadI 0 1), aP (pPush (.int 65535) 2), aP (pBinI (· &&& ·) 3), fRetI .int]
def cd_146 : List lI := cd_146_0
/-! jdk/internal/misc/Unsafe.makeInt(BBBB)I -/
def cd_147_0 : List lI := [aP (pLoadI 0 1), fStuck, aP (pPush (.int 24) 3), aP (pPush (.int 0) 4), fStuck, aP (pBinI (fun x y => x <<< (y &&& 31)) 6), aP (pLoadI 1 7), fStuck, aP (pPush (.int 24) 9), aP (pPush (.int 8) 10), fStuck, aP (pBinI (fun x y => x <<< (y &&& 31)) 12), aP (pBinI (· ||| ·) 13), aP (pLoadI 2 14), fStuck, aP (pPush (.int 24) 16), aP (pPush (.int 16) 17), fStuck, aP (pBinI (fun x y => x <<< (y &&& 31)) 19), aP (pBinI (· ||| ·) 20), aP (pLoadI 3 21), fStuck, aP (pPush (.int 24) 23), aP (pPush (.int 24) 24), fStuck, aP (pBinI (fun x y => x <<< (y &&& 31)) 26), aP (pBinI (· ||| ·) 27), fRetI .int]
def cd_147 : List lI := cd_147_0
/-! jdk/internal/misc/Unsafe.toUnsignedInt(B)I -/
def cd_148_0 : List lI := [aP (pLoadI 0 1), aP (pPush (.int 255) 2), aP (pBinI (· &&& ·) 3), fRetI .int]
def cd_148 : List lI := cd_148_0
/-! java/util/TreeMap$Entry.<init>(Ljava/lang/Object;Ljava/lang/Object;Ljava/util/TreeMap$Entry;)V -/
def cd_149_0 : List lI := [aP (pLoadA 0 1), fObj 2, aP (pLoadA 0 3), aP (pPush (.int 1) 4), aM (fPut [(23, 5)] (.boolean) 5), aP (pLoadA 0 6), aP (pLoadA 1 7), aM (fPut [(23, 0)] (.object "java/lang/Object") 8), aP (pLoadA 0 9), aP (pLoadA 2 10), aM (fPut [(23, 1)] (.object "java/lang/Object") 11), aP (pLoadA 0 12), aP (pLoadA 3 13), aM (fPut [(23, 4)] (.object "java/util/TreeMap$Entry") 14), fRetV]
def cd_149 : List lI := cd_149_0
/-! java/util/TreeMap$Entry.getValue()Ljava/lang/Object; -/
def cd_150_0 : List lI := [aP (pLoadA 0 1), aM (fGet [(23, 1)] 2), fRetA]
def cd_150 : List lI := cd_150_0
/-! java/util/TreeMap$Entry.getKey()Ljava/lang/Object; -/
def cd_151_0 : List lI := [aP (pLoadA 0 1), aM (fGet [(23, 0)] 2), fRetA]
def cd_151 : List lI := cd_151_0
/-! java/lang/AbstractStringBuilder.<init>(I)V -/
def cd_152_0 : List lI := [aP (pLoadA 0 1), fObj 2, aM (fEnv 27 3), aP (pIf fz_eq 12 4), aP (pLoadA 0 5), aP (pLoadI 1 6), aM (fNewa 2 (.int 0) 7), aM (fPut [(35, 0)] (.array .byte) 8), aP (pLoadA 0 9), aP (pPush (.int 0) 10), aM (fPut [(35, 1)] (.byte) 11), aP (pGoto 19), aP (pLoadA 0 13), aP (pLoadI 1 14), fCall hdOut 1 244 15, aM (fPut [(35, 0)] (.array .byte) 16), aP (pLoadA 0 17), aP (pPush (.int 1) 18), aM (fPut [(35, 1)] (.byte) 19), fRetV]
def cd_152 : List lI := cd_152_0
/-! java/lang/AbstractStringBuilder.length()I -/
def cd_153_0 : List lI := [aP (pLoadA 0 1), aM (fGet [(35, 3)] 2), fRetI .int]
def cd_153 : List lI := cd_153_0
/-! java/lang/AbstractStringBuilder.charAt(I)C -/
def cd_154_0 : List lI := [aP (pLoadA 0 1), aM (fGet [(35, 1)] 2), aP (pStI 2 3), aP (pLoadA 0 4), aM (fGet [(35, 0)] 5), aP (pStA 3 6), aP (pLoadA 0 7), aM (fGet [(35, 3)] 8), aP (pLoadA 3 9), aM (fLen 10), aP (pLoadI 2 11), aP (pBinI (fun x y => x >>> (y &&& 31)) 12), fCall hdOut 2 48 13, aP (pStI 4 14), aP (pLoadI 1 15), aP (pLoadI 4 16), fCall hdOut 2 225 17, aP (pLoadI 2 18), aP (pIf fz_ne 26 19), aP (pLoadA 3 20), aP (pLoadI 1 21), aM (fAld [2, 3] 22), aP (pPush (.int 255) 23), aP (pBinI (· &&& ·) 24), aP (pUnI (fun x => (x.toUInt32 % 65536).toInt32) 25), fRetI .char, aP (pLoadA 3 27), aP (pLoadI 1 28), fCall hdOut 2 246 29, fRetI .char]
def cd_154 : List lI := cd_154_0
/-! java/lang/AbstractStringBuilder.substring(II)Ljava/lang/String; -/
def cd_155_0 : List lI := [aP (pLoadI 1 1), aP (pLoadI 2 2), aP (pLoadA 0 3), aM (fGet [(35, 3)] 4), aM (fEnv 28 5), fCall hdOut 4 96 6, aP (pPop 7), aP (pLoadA 0 8), fCallV hdOut 0 [(35, 156)] 9, aP (pIf fz_eq 18 10), aP (pLoadA 0 11), aM (fGet [(35, 0)] 12), aP (pLoadI 1 13), aP (pLoadI 2 14), aP (pLoadI 1 15), aP (pBinI (· - ·) 16), fCall hdOut 3 122 17, fRetA, aP (pLoadA 0 19), aM (fGet [(35, 0)] 20), aP (pLoadI 1 21), aP (pLoadI 2 22), aP (pLoadI 1 23), aP (pBinI (· - ·) 24), fCall hdOut 3 262 25, fRetA]
def cd_155 : List lI := cd_155_0
/-! java/lang/AbstractStringBuilder.isLatin1()Z -/
def cd_156_0 : List lI := [aM (fEnv 27 1), aP (pIf fz_eq 7 2), aP (pLoadA 0 3), aM (fGet [(35, 1)] 4), aP (pIf fz_ne 7 5), aP (pPush (.int 1) 6), aP (pGoto 8), aP (pPush (.int 0) 8), fRetI .boolean]
def cd_156 : List lI := cd_156_0
/-! java/lang/AbstractStringBuilder.append(I)Ljava/lang/AbstractStringBuilder; -/
def cd_157_0 : List lI := [aP (pLoadA 0 1), aM (fGet [(35, 3)] 2), aP (pStI 2 3), aP (pLoadI 2 4), aP (pLoadI 1 5), fCall hdOut 1 100 6, aP (pBinI (· + ·) 7), aP (pStI 3 8), aP (pLoadA 0 9), aP (pLoadI 3 10), fCallV hdOut 1 [(24, 158), (35, 158)] 11, aP (pLoadA 0 12), fCallV hdOut 0 [(35, 156)] 13, aP (pIf fz_eq 21 14), aP (pLoadI 1 15), aP (pLoadI 3 16), aP (pLoadA 0 17), aM (fGet [(35, 0)] 18), fCall hdOut 3 101 19, aP (pPop 20), aP (pGoto 28), aP (pLoadI 1 22), aP (pLoadI 2 23), aP (pLoadI 3 24), aP (pLoadA 0 25), aM (fGet [(35, 0)] 26), fCall hdOut 4 253 27, aP (pPop 28), aP (pLoadA 0 29), aP (pLoadI 3 30), aM (fPut [(35, 3)] (.int) 31), aP (pLoadA 0 32), fRetA]
def cd_157 : List lI := cd_157_0
/-! java/lang/AbstractStringBuilder.ensureCapacityInternal(I)V -/
def cd_158_0 : List lI := [aP (pLoadA 0 1), aM (fGet [(35, 0)] 2), aM (fLen 3), aP (pLoadA 0 4), aM (fGet [(35, 1)] 5), aP (pBinI (fun x y => x >>> (y &&& 31)) 6), aP (pStI 2 7), aP (pLoadI 1 8), aP (pLoadI 2 9), aP (pBinI (· - ·) 10), aP (pIf fz_le 22 11), aP (pLoadA 0 12), aP (pLoadA 0 13), aM (fGet [(35, 0)] 14), aP (pLoadA 0 15), aP (pLoadI 1 16), fCallV hdOut 1 [(24, 159), (35, 159)] 17, aP (pLoadA 0 18), aM (fGet [(35, 1)] 19), aP (pBinI (fun x y => x <<< (y &&& 31)) 20), fCall hdOut 2 61 21, aM (fPut [(35, 0)] (.array .byte) 22), fRetV]
def cd_158 : List lI := cd_158_0
/-! java/lang/AbstractStringBuilder.newCapacity(I)I -/
def cd_159_0 : List lI := [aP (pLoadA 0 1), aM (fGet [(35, 0)] 2), aM (fLen 3), aP (pStI 2 4), aP (pLoadI 1 5), aP (pLoadA 0 6), aM (fGet [(35, 1)] 7), aP (pBinI (fun x y => x <<< (y &&& 31)) 8), aP (pStI 3 9), aP (pLoadI 3 10), aP (pLoadI 2 11), aP (pBinI (· - ·) 12), aP (pStI 4 13), aP (pLoadI 2 14), aP (pLoadI 4 15), aP (pLoadI 2 16), aP (pPush (.int 2) 17), aP (pLoadA 0 18), aM (fGet [(35, 1)] 19), aP (pBinI (fun x y => x <<< (y &&& 31)) 20), aP (pBinI (· + ·) 21), fCall hdOut 3 36 22, aP (pStI 5 23), aP (pLoadI 5 24), aP (pPush (.int 2147483647) 25), aP (pCmp fc_ne 31 26), fStuck, aP (pDup 28), fStuck, fStuck, fThrow hdOut, aP (pLoadI 5 32), aP (pLoadA 0 33), aM (fGet [(35, 1)] 34), aP (pBinI (fun x y => x >>> (y &&& 31)) 35), fRetI .int]
def cd_159 : List lI := cd_159_0
/-! java/lang/AbstractStringBuilder.append(Ljava/lang/String;)Ljava/lang/AbstractStringBuilder; -/
def cd_160_0 : List lI := [aP (pLoadA 1 1), aP (pNul 2 5), aP (pLoadA 0 3), fCallV hdOut 0 [(24, 161), (35, 161)] 4, fRetA, aP (pLoadA 1 6), fCallV hdOut 0 [(0, 229)] 7, aP (pStI 2 8), aP (pLoadA 0 9), aP (pLoadA 0 10), aM (fGet [(35, 3)] 11), aP (pLoadI 2 12), aP (pBinI (· + ·) 13), fCallV hdOut 1 [(24, 158), (35, 158)] 14, aP (pLoadA 0 15), aP (pLoadA 0 16), aM (fGet [(35, 3)] 17), aP (pLoadA 1 18), fCallV hdOut 2 [(24, 162), (35, 162)] 19, aP (pLoadA 0 20), aP (pDup 21), aM (fGet [(35, 3)] 22), aP (pLoadI 2 23), aP (pBinI (· + ·) 24), aM (fPut [(35, 3)] (.int) 25), aP (pLoadA 0 26), fRetA]
def cd_160 : List lI := cd_160_0
/-! java/lang/AbstractStringBuilder.appendNull()Ljava/lang/AbstractStringBuilder; -/
def cd_161_0 : List lI := [aP (pLoadA 0 1), aP (pLoadA 0 2), aM (fGet [(35, 3)] 3), aP (pPush (.int 4) 4), aP (pBinI (· + ·) 5), fCallV hdOut 1 [(24, 158), (35, 158)] 6, aP (pLoadA 0 7), aM (fGet [(35, 3)] 8), aP (pStI 1 9), aP (pLoadA 0 10), aM (fGet [(35, 0)] 11), aP (pStA 2 12), aP (pLoadA 0 13), fCallV hdOut 0 [(35, 156)] 14, aP (pIf fz_eq 36 15), aP (pLoadA 2 16), aP (pLoadI 1 17), aP (pInc 1 1 18), aP (pPush (.int 110) 19), aM (fBst 2 3 20), aP (pLoadA 2 21), aP (pLoadI 1 22), aP (pInc 1 1 23), aP (pPush (.int 117) 24), aM (fBst 2 3 25), aP (pLoadA 2 26), aP (pLoadI 1 27), aP (pInc 1 1 28), aP (pPush (.int 108) 29), aM (fBst 2 3 30), aP (pLoadA 2 31), aP (pLoadI 1 32), aP (pInc 1 1 33), aP (pPush (.int 108) 34), aM (fBst 2 3 35), aP (pGoto 44), aP (pLoadA 2 37), aP (pLoadI 1 38), aP (pPush (.int 110) 39), aP (pPush (.int 117) 40)]
def cd_161_1 : List lI := [aP (pPush (.int 108) 41), aP (pPush (.int 108) 42), fCall hdOut 6 256 43, aP (pStI 1 44), aP (pLoadA 0 45), aP (pLoadI 1 46), aM (fPut [(35, 3)] (.int) 47), aP (pLoadA 0 48), fRetA]
def cd_161 : List lI := cd_161_0 ++ (cd_161_1)
/-! java/lang/AbstractStringBuilder.putStringAt(ILjava/lang/String;)V -/
def cd_162_0 : List lI := [aP (pLoadA 0 1), aP (pLoadA 2 2), fCallV hdOut 1 [(24, 163), (35, 163)] 3, aP (pLoadA 2 4), aP (pLoadA 0 5), aM (fGet [(35, 0)] 6), aP (pLoadI 1 7), aP (pLoadA 0 8), aM (fGet [(35, 1)] 9), fCallV hdOut 3 [(0, 233)] 10, fRetV]
def cd_162 : List lI := cd_162_0
/-! java/lang/AbstractStringBuilder.inflateIfNeededFor(Ljava/lang/String;)V -/
def cd_163_0 : List lI := [aM (fEnv 27 1), aP (pIf fz_eq 9 2), aP (pLoadA 0 3), aM (fGet [(35, 1)] 4), aP (pLoadA 1 5), fCallV hdOut 0 [(0, 230)] 6, aP (pCmp fc_eq 9 7), aP (pLoadA 0 8), fCallV hdOut 0 [(24, 164), (35, 164)] 9, fRetV]
def cd_163 : List lI := cd_163_0
/-! java/lang/AbstractStringBuilder.inflate()V -/
def cd_164_0 : List lI := [aP (pLoadA 0 1), fCallV hdOut 0 [(35, 156)] 2, aP (pIf fz_ne 4 3), fRetV, aP (pLoadA 0 5), aM (fGet [(35, 0)] 6), aM (fLen 7), fCall hdOut 1 244 8, aP (pStA 1 9), aP (pLoadA 0 10), aM (fGet [(35, 0)] 11), aP (pPush (.int 0) 12), aP (pLoadA 1 13), aP (pPush (.int 0) 14), aP (pLoadA 0 15), aM (fGet [(35, 3)] 16), fCall hdOut 5 123 17, aP (pLoadA 0 18), aP (pLoadA 1 19), aM (fPut [(35, 0)] (.array .byte) 20), aP (pLoadA 0 21), aP (pPush (.int 1) 22), aM (fPut [(35, 1)] (.byte) 23), fRetV]
def cd_164 : List lI := cd_164_0
/-! java/lang/AbstractStringBuilder.getValue()[B -/
def cd_165_0 : List lI := [aP (pLoadA 0 1), aM (fGet [(35, 0)] 2), fRetA]
def cd_165 : List lI := cd_165_0
/-! java/lang/AbstractStringBuilder.setLength(I)V -/
def cd_166_0 : List lI := [aP (pLoadI 1 1), aP (pIf fz_ge 7 2), fStuck, aP (pDup 4), aP (pLoadI 1 5), fStuck, fThrow hdOut, aP (pLoadA 0 8), aP (pLoadI 1 9), fCallV hdOut 1 [(24, 158), (35, 158)] 10, aP (pLoadA 0 11), aM (fGet [(35, 3)] 12), aP (pLoadI 1 13), aP (pCmp fc_ge 31 14), aP (pLoadA 0 15), fCallV hdOut 0 [(35, 156)] 16, aP (pIf fz_eq 24 17), aP (pLoadA 0 18), aM (fGet [(35, 0)] 19), aP (pLoadA 0 20), aM (fGet [(35, 3)] 21), aP (pLoadI 1 22), fCall hdOut 3 126 23, aP (pGoto 38), aP (pLoadA 0 25), aM (fGet [(35, 0)] 26), aP (pLoadA 0 27), aM (fGet [(35, 3)] 28), aP (pLoadI 1 29), fCall hdOut 3 265 30, aP (pGoto 38), aP (pLoadA 0 32), aM (fGet [(35, 3)] 33), aP (pLoadI 1 34), aP (pCmp fc_le 38 35), aP (pLoadA 0 36), aP (pPush (.int 1) 37), aM (fPut [(35, 2)] (.boolean) 38), aP (pLoadA 0 39), aP (pLoadI 1 40)]
def cd_166_1 : List lI := [aM (fPut [(35, 3)] (.int) 41), fRetV]
def cd_166 : List lI := cd_166_0 ++ (cd_166_1)
/-! java/lang/AbstractStringBuilder.compareTo(Ljava/lang/AbstractStringBuilder;)I -/
def cd_167_0 : List lI := [aP (pLoadA 0 1), aP (pLoadA 1 2), aP (pAeq 3 5), aP (pPush (.int 0) 4), fRetI .int, aP (pLoadA 0 6), aM (fGet [(35, 0)] 7), aP (pStA 2 8), aP (pLoadA 1 9), aM (fGet [(35, 0)] 10), aP (pStA 3 11), aP (pLoadA 0 12), aM (fGet [(35, 3)] 13), aP (pStI 4 14), aP (pLoadA 1 15), aM (fGet [(35, 3)] 16), aP (pStI 5 17), aP (pLoadA 0 18), aM (fGet [(35, 1)] 19), aP (pLoadA 1 20), aM (fGet [(35, 1)] 21), aP (pCmp fc_ne 37 22), aP (pLoadA 0 23), fCallV hdOut 0 [(35, 156)] 24, aP (pIf fz_eq 31 25), aP (pLoadA 2 26), aP (pLoadA 3 27), aP (pLoadI 4 28), aP (pLoadI 5 29), fCall hdOut 4 128 30, aP (pGoto 36), aP (pLoadA 2 32), aP (pLoadA 3 33), aP (pLoadI 4 34), aP (pLoadI 5 35), fCall hdOut 4 269 36, fRetI .int, aP (pLoadA 0 38), fCallV hdOut 0 [(35, 156)] 39, aP (pIf fz_eq 46 40)]
def cd_167_1 : List lI := [aP (pLoadA 2 41), aP (pLoadA 3 42), aP (pLoadI 4 43), aP (pLoadI 5 44), fCall hdOut 4 133 45, aP (pGoto 51), aP (pLoadA 2 47), aP (pLoadA 3 48), aP (pLoadI 4 49), aP (pLoadI 5 50), fCall hdOut 4 271 51, fRetI .int]
def cd_167 : List lI := cd_167_0 ++ (cd_167_1)
/-! java/lang/AbstractStringBuilder.append(C)Ljava/lang/AbstractStringBuilder; -/
def cd_168_0 : List lI := [aP (pLoadA 0 1), aP (pLoadA 0 2), aM (fGet [(35, 3)] 3), aP (pPush (.int 1) 4), aP (pBinI (· + ·) 5), fCallV hdOut 1 [(24, 158), (35, 158)] 6, aP (pLoadA 0 7), fCallV hdOut 0 [(35, 156)] 8, aP (pIf fz_eq 25 9), aP (pLoadI 1 10), fCall hdOut 1 134 11, aP (pIf fz_eq 25 12), aP (pLoadA 0 13), aM (fGet [(35, 0)] 14), aP (pLoadA 0 15), aP (pDup 16), aM (fGet [(35, 3)] 17), aP (pDupX1 18), aP (pPush (.int 1) 19), aP (pBinI (· + ·) 20), aM (fPut [(35, 3)] (.int) 21), aP (pLoadI 1 22), aP (pUnI (fun x => x.toInt8.toInt32) 23), aM (fBst 2 3 24), aP (pGoto 41), aP (pLoadA 0 26), fCallV hdOut 0 [(35, 156)] 27, aP (pIf fz_eq 30 28), aP (pLoadA 0 29), fCallV hdOut 0 [(24, 164), (35, 164)] 30, aP (pLoadA 0 31), aM (fGet [(35, 0)] 32), aP (pLoadA 0 33), aP (pDup 34), aM (fGet [(35, 3)] 35), aP (pDupX1 36), aP (pPush (.int 1) 37), aP (pBinI (· + ·) 38), aM (fPut [(35, 3)] (.int) 39), aP (pLoadI 1 40)]
def cd_168_1 : List lI := [fCall hdOut 3 272 41, aP (pLoadA 0 42), fRetA]
def cd_168 : List lI := cd_168_0 ++ (cd_168_1)
/-! java/lang/AbstractStringBuilder.<init>(Ljava/lang/String;)V -/
def cd_169_0 : List lI := [aP (pLoadA 0 1), fObj 2, aP (pLoadA 1 3), fCallV hdOut 0 [(0, 229)] 4, aP (pStI 2 5), aP (pLoadI 2 6), aP (pPush (.int 2147483631) 7), aP (pCmp fc_ge 12 8), aP (pLoadI 2 9), aP (pPush (.int 16) 10), aP (pBinI (· + ·) 11), aP (pGoto 13), aP (pPush (.int 2147483647) 13), aP (pStI 3 14), aP (pLoadA 1 15), fCallV hdOut 0 [(0, 230)] 16, aP (pStI 4 17), aP (pLoadA 0 18), aP (pLoadI 4 19), aM (fPut [(35, 1)] (.byte) 20), aP (pLoadA 0 21), aP (pLoadI 4 22), aP (pIf fz_ne 26 23), aP (pLoadI 3 24), aM (fNewa 2 (.int 0) 25), aP (pGoto 28), aP (pLoadI 3 27), fCall hdOut 1 244 28, aM (fPut [(35, 0)] (.array .byte) 29), aP (pLoadA 0 30), aP (pLoadA 1 31), fCallV hdOut 1 [(35, 207)] 32, aP (pPop 33), fRetV]
def cd_169 : List lI := cd_169_0
/-! java/util/ArrayDeque$DeqIterator.hasNext()Z -/
def cd_170_0 : List lI := [aP (pLoadA 0 1), aM (fGet [(25, 1)] 2), aP (pIf fz_le 5 3), aP (pPush (.int 1) 4), aP (pGoto 6), aP (pPush (.int 0) 6), fRetI .boolean]
def cd_170 : List lI := cd_170_0
/-! java/util/ArrayDeque$DeqIterator.next()Ljava/lang/Object; -/
def cd_171_0 : List lI := [aP (pLoadA 0 1), aM (fGet [(25, 1)] 2), aP (pIf fz_gt 7 3), fStuck, aP (pDup 5), fStuck, fThrow hdOut, aP (pLoadA 0 8), aM (fGet [(25, 3)] 9), aM (fGet [(4, 0)] 10), aP (pStA 1 11), aP (pLoadA 1 12), aP (pLoadA 0 13), aM (fGet [(25, 0)] 14), fCall hdOut 2 21 15, aP (pStA 2 16), aP (pLoadA 0 17), aP (pLoadA 0 18), aP (pLoadA 0 19), aM (fGet [(25, 0)] 20), aP (pDupX1 21), aM (fPut [(25, 2)] (.int) 22), aP (pLoadA 1 23), aM (fLen 24), fCall hdOut 2 22 25, aM (fPut [(25, 0)] (.int) 26), aP (pLoadA 0 27), aP (pDup 28), aM (fGet [(25, 1)] 29), aP (pPush (.int 1) 30), aP (pBinI (· - ·) 31), aM (fPut [(25, 1)] (.int) 32), aP (pLoadA 2 33), fRetA]
def cd_171 : List lI := cd_171_0
/-! java/util/ArrayDeque$DeqIterator.<init>(Ljava/util/ArrayDeque;)V -/
def cd_172_0 : List lI := [aP (pLoadA 0 1), aP (pLoadA 1 2), aM (fPut [(25, 3)] (.object "java/util/ArrayDeque") 3), aP (pLoadA 0 4), fObj 5, aP (pLoadA 0 6), aP (pLoadA 0 7), aM (fGet [(25, 3)] 8), fCallV hdOut 0 [(4, 28)] 9, aM (fPut [(25, 1)] (.int) 10), aP (pLoadA 0 11), aP (pPush (.int (-1)) 12), aM (fPut [(25, 2)] (.int) 13), aP (pLoadA 0 14), aP (pLoadA 1 15), aM (fGet [(4, 1)] 16), aM (fPut [(25, 0)] (.int) 17), fRetV]
def cd_172 : List lI := cd_172_0
/-! java/util/PriorityQueue$Itr.hasNext()Z -/
def cd_173_0 : List lI := [aP (pLoadA 0 1), aM (fGet [(26, 0)] 2), aP (pLoadA 0 3), aM (fGet [(26, 5)] 4), aM (fGet [(37, 1)] 5), aP (pCmp fc_lt 13 6), aP (pLoadA 0 7), aM (fGet [(26, 2)] 8), aP (pNul 15 9), aP (pLoadA 0 10), aM (fGet [(26, 2)] 11), fCallV hdOut 0 [(4, 20)] 12, aP (pIf fz_ne 15 13), aP (pPush (.int 1) 14), aP (pGoto 16), aP (pPush (.int 0) 16), fRetI .boolean]
def cd_173 : List lI := cd_173_0
/-! java/util/PriorityQueue$Itr.next()Ljava/lang/Object; -/
def cd_174_0 : List lI := [aP (pLoadA 0 1), aM (fGet [(26, 4)] 2), aP (pLoadA 0 3), aM (fGet [(26, 5)] 4), aM (fGet [(37, 3)] 5), aP (pCmp fc_eq 10 6), fStuck, aP (pDup 8), fStuck, fThrow hdOut, aP (pLoadA 0 11), aM (fGet [(26, 0)] 12), aP (pLoadA 0 13), aM (fGet [(26, 5)] 14), aM (fGet [(37, 1)] 15), aP (pCmp fc_ge 31 16), aP (pLoadA 0 17), aM (fGet [(26, 5)] 18), aM (fGet [(37, 0)] 19), aP (pLoadA 0 20), aP (pLoadA 0 21), aP (pDup 22), aM (fGet [(26, 0)] 23), aP (pDupX1 24), aP (pPush (.int 1) 25), aP (pBinI (· + ·) 26), aM (fPut [(26, 0)] (.int) 27), aP (pDupX1 28), aM (fPut [(26, 1)] (.int) 29), aM (fAld [6, 7, 8, 9, 10, 11] 30), fRetA, aP (pLoadA 0 32), aM (fGet [(26, 2)] 33), aP (pNul 48 34), aP (pLoadA 0 35), aP (pPush (.int (-1)) 36), aM (fPut [(26, 1)] (.int) 37), aP (pLoadA 0 38), aP (pLoadA 0 39), aM (fGet [(26, 2)] 40)]
def cd_174_1 : List lI := [fCallV hdOut 0 [(4, 23)] 41, aM (fPut [(26, 3)] (.object "java/lang/Object") 42), aP (pLoadA 0 43), aM (fGet [(26, 3)] 44), aP (pNul 48 45), aP (pLoadA 0 46), aM (fGet [(26, 3)] 47), fRetA, fStuck, aP (pDup 50), fStuck, fThrow hdOut]
def cd_174 : List lI := cd_174_0 ++ (cd_174_1)
/-! java/util/PriorityQueue$Itr.<init>(Ljava/util/PriorityQueue;)V -/
def cd_175_0 : List lI := [aP (pLoadA 0 1), aP (pLoadA 1 2), aM (fPut [(26, 5)] (.object "java/util/PriorityQueue") 3), aP (pLoadA 0 4), fObj 5, aP (pLoadA 0 6), aP (pPush (.int (-1)) 7), aM (fPut [(26, 1)] (.int) 8), aP (pLoadA 0 9), aP (pLoadA 0 10), aM (fGet [(26, 5)] 11), aM (fGet [(37, 3)] 12), aM (fPut [(26, 4)] (.int) 13), fRetV]
def cd_175 : List lI := cd_175_0
/-! java/util/TreeMap$PrivateEntryIterator.hasNext()Z -/
def cd_176_0 : List lI := [aP (pLoadA 0 1), aM (fGet [(28, 0), (29, 0)] 2), aP (pNul 5 3), aP (pPush (.int 1) 4), aP (pGoto 6), aP (pPush (.int 0) 6), fRetI .boolean]
def cd_176 : List lI := cd_176_0
/-! java/util/TreeMap$PrivateEntryIterator.nextEntry()Ljava/util/TreeMap$Entry; -/
def cd_177_0 : List lI := [aP (pLoadA 0 1), aM (fGet [(28, 0), (29, 0)] 2), aP (pStA 1 3), aP (pLoadA 1 4), aP (pNul 5 9), fStuck, aP (pDup 7), fStuck, fThrow hdOut, aP (pLoadA 0 10), aM (fGet [(28, 3), (29, 3)] 11), aM (fGet [(42, 5)] 12), aP (pLoadA 0 13), aM (fGet [(28, 2), (29, 2)] 14), aP (pCmp fc_eq 19 15), fStuck, aP (pDup 17), fStuck, fThrow hdOut, aP (pLoadA 0 20), aP (pLoadA 1 21), fCall hdOut 1 277 22, aM (fPut [(28, 0), (29, 0)] (.object "java/util/TreeMap$Entry") 23), aP (pLoadA 0 24), aP (pLoadA 1 25), aM (fPut [(28, 1), (29, 1)] (.object "java/util/TreeMap$Entry") 26), aP (pLoadA 1 27), fRetA]
def cd_177 : List lI := cd_177_0
/-! java/util/TreeMap$PrivateEntryIterator.<init>(Ljava/util/TreeMap;Ljava/util/TreeMap$Entry;)V -/
def cd_178_0 : List lI := [aP (pLoadA 0 1), aP (pLoadA 1 2), aM (fPut [(28, 3), (29, 3)] (.object "java/util/TreeMap") 3), aP (pLoadA 0 4), fObj 5, aP (pLoadA 0 6), aP (pLoadA 1 7), aM (fGet [(42, 5)] 8), aM (fPut [(28, 2), (29, 2)] (.int) 9), aP (pLoadA 0 10), aP (pPush .null 11), aM (fPut [(28, 1), (29, 1)] (.object "java/util/TreeMap$Entry") 12), aP (pLoadA 0 13), aP (pLoadA 2 14), aM (fPut [(28, 0), (29, 0)] (.object "java/util/TreeMap$Entry") 15), fRetV]
def cd_178 : List lI := cd_178_0
/-! java/util/TreeMap$EntryIterator.next()Ljava/lang/Object; -/
def cd_179_0 : List lI := [aP (pLoadA 0 1), fCallV hdOut 0 [(28, 180)] 2, fRetA]
def cd_179 : List lI := cd_179_0
/-! java/util/TreeMap$EntryIterator.next()Ljava/util/Map$Entry; -/
def cd_180_0 : List lI := [aP (pLoadA 0 1), fCallV hdOut 0 [(28, 177)] 2, fRetA]
def cd_180 : List lI := cd_180_0
/-! java/util/TreeMap$EntryIterator.<init>(Ljava/util/TreeMap;Ljava/util/TreeMap$Entry;)V -/
def cd_181_0 : List lI := [aP (pLoadA 0 1), aP (pLoadA 1 2), aP (pLoadA 2 3), fCallV hdOut 2 [(27, 178), (28, 178), (29, 178)] 4, fRetV]
def cd_181 : List lI := cd_181_0
/-! java/util/TreeMap$ValueIterator.next()Ljava/lang/Object; -/
def cd_182_0 : List lI := [aP (pLoadA 0 1), fCallV hdOut 0 [(29, 177)] 2, aM (fGet [(23, 1)] 3), fRetA]
def cd_182 : List lI := cd_182_0
/-! java/util/TreeMap$ValueIterator.<init>(Ljava/util/TreeMap;Ljava/util/TreeMap$Entry;)V -/
def cd_183_0 : List lI := [aP (pLoadA 0 1), aP (pLoadA 1 2), aP (pLoadA 2 3), fCallV hdOut 2 [(27, 178), (28, 178), (29, 178)] 4, fRetV]
def cd_183 : List lI := cd_183_0
/-! java/util/AbstractSet.<init>()V -/
def cd_184_0 : List lI := [aP (pLoadA 0 1), fCallV hdOut 0 [(1, 0), (2, 0), (4, 0), (13, 0), (30, 0), (31, 0), (34, 0), (36, 0), (37, 0)] 2, fRetV]
def cd_184 : List lI := cd_184_0
/-! java/util/TreeMap$EntrySet.size()I -/
def cd_185_0 : List lI := [aP (pLoadA 0 1), aM (fGet [(31, 0)] 2), fCallV hdOut 0 [(42, 294)] 3, fRetI .int]
def cd_185 : List lI := cd_185_0
/-! java/util/TreeMap$EntrySet.iterator()Ljava/util/Iterator; -/
def cd_186_0 : List lI := [aM (fNew 28 [.null, .null, .int 0, .null] 1), aP (pDup 2), aP (pLoadA 0 3), aM (fGet [(31, 0)] 4), aP (pLoadA 0 5), aM (fGet [(31, 0)] 6), fCallV hdOut 0 [(42, 295)] 7, fCallV hdOut 2 [(28, 181)] 8, fRetA]
def cd_186 : List lI := cd_186_0
/-! java/util/TreeMap$EntrySet.<init>(Ljava/util/TreeMap;)V -/
def cd_187_0 : List lI := [aP (pLoadA 0 1), aP (pLoadA 1 2), aM (fPut [(31, 0)] (.object "java/util/TreeMap") 3), aP (pLoadA 0 4), fCallV hdOut 0 [(30, 184), (31, 184)] 5, fRetV]
def cd_187 : List lI := cd_187_0
/-! java/lang/Character.isValidCodePoint(I)Z -/
def cd_188_0 : List lI := [aP (pLoadI 0 1), aP (pPush (.int 16) 2), aP (pBinI (fun x y => (x.toUInt32 >>> (y.toUInt32 &&& Int32.toUInt32 31)).toInt32) 3), aP (pStI 1 4), aP (pLoadI 1 5), aP (pPush (.int 17) 6), aP (pCmp fc_ge 9 7), aP (pPush (.int 1) 8), aP (pGoto 10), aP (pPush (.int 0) 10), fRetI .boolean]
def cd_188 : List lI := cd_188_0
/-! java/lang/Character.highSurrogate(I)C -/
def cd_189_0 : List lI := [aP (pLoadI 0 1), aP (pPush (.int 10) 2), aP (pBinI (fun x y => (x.toUInt32 >>> (y.toUInt32 &&& Int32.toUInt32 31)).toInt32) 3), aP (pPush (.int 55232) 4), aP (pBinI (· + ·) 5), aP (pUnI (fun x => (x.toUInt32 % 65536).toInt32) 6), fRetI .char]
def cd_189 : List lI := cd_189_0
/-! java/lang/Character.lowSurrogate(I)C -/
def cd_190_0 : List lI := [aP (pLoadI 0 1), aP (pPush (.int 1023) 2), aP (pBinI (· &&& ·) 3), aP (pPush (.int 56320) 4), aP (pBinI (· + ·) 5), aP (pUnI (fun x => (x.toUInt32 % 65536).toInt32) 6), fRetI .char]
def cd_190 : List lI := cd_190_0
/-! java/lang/ArithmeticException.<init>(Ljava/lang/String;)V -/
def cd_191_0 : List lI := [aP (pLoadA 0 1), aP (pLoadA 1 2), fCallV hdOut 1 [(10, 70), (11, 70), (12, 70), (33, 70)] 3, fRetV]
def cd_191 : List lI := cd_191_0
/-! java/util/TreeMap$Values.size()I -/
def cd_192_0 : List lI := [aP (pLoadA 0 1), aM (fGet [(34, 0)] 2), fCallV hdOut 0 [(42, 294)] 3, fRetI .int]
def cd_192 : List lI := cd_192_0
/-! java/util/TreeMap$Values.iterator()Ljava/util/Iterator; -/
def cd_193_0 : List lI := [aM (fNew 29 [.null, .null, .int 0, .null] 1), aP (pDup 2), aP (pLoadA 0 3), aM (fGet [(34, 0)] 4), aP (pLoadA 0 5), aM (fGet [(34, 0)] 6), fCallV hdOut 0 [(42, 295)] 7, fCallV hdOut 2 [(29, 183)] 8, fRetA]
def cd_193 : List lI := cd_193_0
/-! java/util/TreeMap$Values.<init>(Ljava/util/TreeMap;)V -/
def cd_194_0 : List lI := [aP (pLoadA 0 1), aP (pLoadA 1 2), aM (fPut [(34, 0)] (.object "java/util/TreeMap") 3), aP (pLoadA 0 4), fCallV hdOut 0 [(1, 0), (2, 0), (4, 0), (13, 0), (30, 0), (31, 0), (34, 0), (36, 0), (37, 0)] 5, fRetV]
def cd_194 : List lI := cd_194_0
/-! java/lang/StringBuilder.<init>()V -/
def cd_195_0 : List lI := [aP (pLoadA 0 1), aP (pPush (.int 16) 2), fCallV hdOut 1 [(24, 152), (35, 152)] 3, fRetV]
def cd_195 : List lI := cd_195_0
/-! java/lang/StringBuilder.length()I -/
def cd_196_0 : List lI := [aP (pLoadA 0 1), fCallV hdOut 0 [(35, 153)] 2, fRetI .int]
def cd_196 : List lI := cd_196_0
/-! java/lang/StringBuilder.charAt(I)C -/
def cd_197_0 : List lI := [aP (pLoadA 0 1), aP (pLoadI 1 2), fCallV hdOut 1 [(35, 154)] 3, fRetI .char]
def cd_197 : List lI := cd_197_0
/-! java/lang/StringBuilder.substring(II)Ljava/lang/String; -/
def cd_198_0 : List lI := [aP (pLoadA 0 1), aP (pLoadI 1 2), aP (pLoadI 2 3), fCallV hdOut 2 [(35, 155)] 4, fRetA]
def cd_198 : List lI := cd_198_0
/-! java/lang/StringBuilder.append(I)Ljava/lang/StringBuilder; -/
def cd_199_0 : List lI := [aP (pLoadA 0 1), aP (pLoadI 1 2), fCallV hdOut 1 [(35, 157)] 3, aP (pPop 4), aP (pLoadA 0 5), fRetA]
def cd_199 : List lI := cd_199_0
/-! java/lang/StringBuilder.append(Ljava/lang/String;)Ljava/lang/StringBuilder; -/
def cd_200_0 : List lI := [aP (pLoadA 0 1), aP (pLoadA 1 2), fCallV hdOut 1 [(35, 160)] 3, aP (pPop 4), aP (pLoadA 0 5), fRetA]
def cd_200 : List lI := cd_200_0
/-! java/lang/StringBuilder.toString()Ljava/lang/String; -/
def cd_201_0 : List lI := [aM (fNew 0 [.null, .int 0, .int 0, .int 0] 1), aP (pDup 2), aP (pLoadA 0 3), fCallV hdOut 1 [(0, 234)] 4, fRetA]
def cd_201 : List lI := cd_201_0
/-! java/lang/StringBuilder.setLength(I)V -/
def cd_202_0 : List lI := [aP (pLoadA 0 1), aP (pLoadI 1 2), fCallV hdOut 1 [(35, 166)] 3, fRetV]
def cd_202 : List lI := cd_202_0
/-! java/lang/StringBuilder.compareTo(Ljava/lang/Object;)I -/
def cd_203_0 : List lI := [aP (pLoadA 0 1), aP (pLoadA 1 2), aM (fCast [35] 3), fCallV hdOut 1 [(35, 204)] 4, fRetI .int]
def cd_203 : List lI := cd_203_0
/-! java/lang/StringBuilder.compareTo(Ljava/lang/StringBuilder;)I -/
def cd_204_0 : List lI := [aP (pLoadA 0 1), aP (pLoadA 1 2), fCallV hdOut 1 [(35, 167)] 3, fRetI .int]
def cd_204 : List lI := cd_204_0
/-! java/lang/StringBuilder.append(C)Ljava/lang/StringBuilder; -/
def cd_205_0 : List lI := [aP (pLoadA 0 1), aP (pLoadI 1 2), fCallV hdOut 1 [(35, 168)] 3, aP (pPop 4), aP (pLoadA 0 5), fRetA]
def cd_205 : List lI := cd_205_0
/-! java/lang/StringBuilder.<init>(Ljava/lang/String;)V -/
def cd_206_0 : List lI := [aP (pLoadA 0 1), aP (pLoadA 1 2), fCallV hdOut 1 [(24, 169), (35, 169)] 3, fRetV]
def cd_206 : List lI := cd_206_0
/-! java/lang/StringBuilder.append(Ljava/lang/String;)Ljava/lang/AbstractStringBuilder; -/
def cd_207_0 : List lI := [aP (pLoadA 0 1), aP (pLoadA 1 2), fCallV hdOut 1 [(35, 200)] 3, fRetA]
def cd_207 : List lI := cd_207_0
/-! java/util/AbstractQueue.<init>()V -/
def cd_208_0 : List lI := [aP (pLoadA 0 1), fCallV hdOut 0 [(1, 0), (2, 0), (4, 0), (13, 0), (30, 0), (31, 0), (34, 0), (36, 0), (37, 0)] 2, fRetV]
def cd_208 : List lI := cd_208_0
/-! java/util/PriorityQueue.toArray()[Ljava/lang/Object; -/
def cd_209_0 : List lI := [aP (pLoadA 0 1), aM (fGet [(37, 0)] 2), aP (pLoadA 0 3), aM (fGet [(37, 1)] 4), fCall hdOut 2 56 5, fRetA]
def cd_209 : List lI := cd_209_0
/-! java/util/PriorityQueue.size()I -/
def cd_210_0 : List lI := [aP (pLoadA 0 1), aM (fGet [(37, 1)] 2), fRetI .int]
def cd_210 : List lI := cd_210_0
/-! java/util/PriorityQueue.iterator()Ljava/util/Iterator; -/
def cd_211_0 : List lI := [aM (fNew 26 [.int 0, .int 0, .null, .null, .int 0, .null] 1), aP (pDup 2), aP (pLoadA 0 3), fCallV hdOut 1 [(26, 175)] 4, fRetA]
def cd_211 : List lI := cd_211_0
/-! java/util/PriorityQueue.<init>()V -/
def cd_212_0 : List lI := [aP (pLoadA 0 1), aP (pPush (.int 11) 2), aP (pPush .null 3), fCallV hdOut 2 [(37, 213)] 4, fRetV]
def cd_212 : List lI := cd_212_0
/-! java/util/PriorityQueue.<init>(ILjava/util/Comparator;)V -/
def cd_213_0 : List lI := [aP (pLoadA 0 1), fCallV hdOut 0 [(36, 208), (37, 208)] 2, aP (pLoadI 1 3), aP (pPush (.int 1) 4), aP (pCmp fc_ge 9 5), aM (fNew 11 [.null, .null, .null, .null, .null, .int 0] 6), aP (pDup 7), fCallV hdOut 0 [(11, 73)] 8, fThrow hdOut, aP (pLoadA 0 10), aP (pLoadI 1 11), aM (fNewa 6 .null 12), aM (fPut [(37, 0)] (.array (.object "java/lang/Object")) 13), aP (pLoadA 0 14), aP (pLoadA 2 15), aM (fPut [(37, 2)] (.object "java/util/Comparator") 16), fRetV]
def cd_213 : List lI := cd_213_0
/-! java/util/PriorityQueue.add(Ljava/lang/Object;)Z -/
def cd_214_0 : List lI := [aP (pLoadA 0 1), aP (pLoadA 1 2), fCallV hdOut 1 [(37, 215)] 3, fRetI .boolean]
def cd_214 : List lI := cd_214_0
/-! java/util/PriorityQueue.offer(Ljava/lang/Object;)Z -/
def cd_215_0 : List lI := [aP (pLoadA 1 1), aP (pNul 2 6), fStuck, aP (pDup 4), fStuck, fThrow hdOut, aP (pLoadA 0 7), aP (pDup 8), aM (fGet [(37, 3)] 9), aP (pPush (.int 1) 10), aP (pBinI (· + ·) 11), aM (fPut [(37, 3)] (.int) 12), aP (pLoadA 0 13), aM (fGet [(37, 1)] 14), aP (pStI 2 15), aP (pLoadI 2 16), aP (pLoadA 0 17), aM (fGet [(37, 0)] 18), aM (fLen 19), aP (pCmp fc_lt 25 20), aP (pLoadA 0 21), aP (pLoadI 2 22), aP (pPush (.int 1) 23), aP (pBinI (· + ·) 24), fCallV hdOut 1 [(37, 216)] 25, aP (pLoadA 0 26), aP (pLoadI 2 27), aP (pLoadA 1 28), fCallV hdOut 2 [(37, 217)] 29, aP (pLoadA 0 30), aP (pLoadI 2 31), aP (pPush (.int 1) 32), aP (pBinI (· + ·) 33), aM (fPut [(37, 1)] (.int) 34), aP (pPush (.int 1) 35), fRetI .boolean]
def cd_215 : List lI := cd_215_0
/-! java/util/PriorityQueue.grow(I)V -/
def cd_216_0 : List lI := [aP (pLoadA 0 1), aM (fGet [(37, 0)] 2), aM (fLen 3), aP (pStI 2 4), aP (pLoadI 2 5), aP (pLoadI 1 6), aP (pLoadI 2 7), aP (pBinI (· - ·) 8), aP (pLoadI 2 9), aP (pPush (.int 64) 10), aP (pCmp fc_ge 15 11), aP (pLoadI 2 12), aP (pPush (.int 2) 13), aP (pBinI (· + ·) 14), aP (pGoto 18), aP (pLoadI 2 16), aP (pPush (.int 1) 17), aP (pBinI (fun x y => x >>> (y &&& 31)) 18), fCall hdOut 3 36 19, aP (pStI 3 20), aP (pLoadA 0 21), aP (pLoadA 0 22), aM (fGet [(37, 0)] 23), aP (pLoadI 3 24), fCall hdOut 2 56 25, aM (fPut [(37, 0)] (.array (.object "java/lang/Object")) 26), fRetV]
def cd_216 : List lI := cd_216_0
/-! java/util/PriorityQueue.siftUp(ILjava/lang/Object;)V -/
def cd_217_0 : List lI := [aP (pLoadA 0 1), aM (fGet [(37, 2)] 2), aP (pNul 11 3), aP (pLoadI 1 4), aP (pLoadA 2 5), aP (pLoadA 0 6), aM (fGet [(37, 0)] 7), aP (pLoadA 0 8), aM (fGet [(37, 2)] 9), fCall hdOut 4 218 10, aP (pGoto 16), aP (pLoadI 1 12), aP (pLoadA 2 13), aP (pLoadA 0 14), aM (fGet [(37, 0)] 15), fCall hdOut 3 219 16, fRetV]
def cd_217 : List lI := cd_217_0
/-! java/util/PriorityQueue.siftUpUsingComparator(ILjava/lang/Object;[Ljava/lang/Object;Ljava/util/Comparator;)V -/
def cd_218_0 : List lI := [aP (pLoadI 0 1), aP (pIf fz_le 25 2), aP (pLoadI 0 3), aP (pPush (.int 1) 4), aP (pBinI (· - ·) 5), aP (pPush (.int 1) 6), aP (pBinI (fun x y => (x.toUInt32 >>> (y.toUInt32 &&& Int32.toUInt32 31)).toInt32) 7), aP (pStI 4 8), aP (pLoadA 2 9), aP (pLoadI 4 10), aM (fAld [6, 7, 8, 9, 10, 11] 11), aP (pStA 5 12), aP (pLoadA 3 13), aP (pLoadA 1 14), aP (pLoadA 5 15), fStuck, aP (pIf fz_lt 18 17), aP (pGoto 25), aP (pLoadA 2 19), aP (pLoadI 0 20), aP (pLoadA 5 21), aM (fRst raTab 22), aP (pLoadI 4 23), aP (pStI 0 24), aP (pGoto 0), aP (pLoadA 2 26), aP (pLoadI 0 27), aP (pLoadA 1 28), aM (fRst raTab 29), fRetV]
def cd_218 : List lI := cd_218_0
/-! java/util/PriorityQueue.siftUpComparable(ILjava/lang/Object;[Ljava/lang/Object;)V -/
def cd_219_0 : List lI := [aP (pLoadA 1 1), aM (fCast [0, 19, 20, 35, 63, 91, 102, 103, 104, 105, 106, 107, 108, 109, 110, 112, 113, 114, 115, 116, 117, 118, 119, 120, 121, 123, 124, 125, 126, 127, 128, 129, 131, 132] 2), aP (pStA 3 3), aP (pLoadI 0 4), aP (pIf fz_le 27 5), aP (pLoadI 0 6), aP (pPush (.int 1) 7), aP (pBinI (· - ·) 8), aP (pPush (.int 1) 9), aP (pBinI (fun x y => (x.toUInt32 >>> (y.toUInt32 &&& Int32.toUInt32 31)).toInt32) 10), aP (pStI 4 11), aP (pLoadA 2 12), aP (pLoadI 4 13), aM (fAld [6, 7, 8, 9, 10, 11] 14), aP (pStA 5 15), aP (pLoadA 3 16), aP (pLoadA 5 17), fCallV hdOut 1 [(19, 103), (20, 111), (35, 203), (0, 240), (63, 879), (91, 1055), (102, 308), (103, 308), (104, 308), (105, 308), (106, 308), (107, 308), (108, 308), (109, 308), (110, 308), (112, 308), (113, 308), (114, 308), (115, 308), (116, 308), (117, 308), (118, 308), (119, 308), (120, 308), (121, 308), (123, 308), (124, 308), (125, 308), (126, 308), (127, 308), (128, 308), (129, 308), (131, 308), (132, 308)] 18, aP (pIf fz_lt 20 19), aP (pGoto 27), aP (pLoadA 2 21), aP (pLoadI 0 22), aP (pLoadA 5 23), aM (fRst raTab 24), aP (pLoadI 4 25), aP (pStI 0 26), aP (pGoto 3), aP (pLoadA 2 28), aP (pLoadI 0 29), aP (pLoadA 3 30), aM (fRst raTab 31), fRetV]
def cd_219 : List lI := cd_219_0
/-! java/util/PriorityQueue.poll()Ljava/lang/Object; -/
def cd_220_0 : List lI := [aP (pLoadA 0 1), aM (fGet [(37, 0)] 2), aP (pDup 3), aP (pStA 1 4), aP (pPush (.int 0) 5), aM (fAld [6, 7, 8, 9, 10, 11] 6), aP (pDup 7), aP (pStA 2 8), aP (pNul 50 9), aP (pLoadA 0 10), aP (pDup 11), aM (fGet [(37, 3)] 12), aP (pPush (.int 1) 13), aP (pBinI (· + ·) 14), aM (fPut [(37, 3)] (.int) 15), aP (pLoadA 1 16), aP (pLoadA 0 17), aP (pDup 18), aM (fGet [(37, 1)] 19), aP (pPush (.int 1) 20), aP (pBinI (· - ·) 21), aP (pDupX1 22), aM (fPut [(37, 1)] (.int) 23), aP (pDup 24), aP (pStI 3 25), aM (fAld [6, 7, 8, 9, 10, 11] 26), aP (pStA 4 27), aP (pLoadA 1 28), aP (pLoadI 3 29), aP (pPush .null 30), aM (fRst raTab 31), aP (pLoadI 3 32), aP (pIf fz_le 50 33), aP (pLoadA 0 34), aM (fGet [(37, 2)] 35), aP (pDup 36), aP (pStA 5 37), aP (pNul 38 44), aP (pPush (.int 0) 39), aP (pLoadA 4 40)]
def cd_220_1 : List lI := [aP (pLoadA 1 41), aP (pLoadI 3 42), fCall hdOut 4 221 43, aP (pGoto 50), aP (pPush (.int 0) 45), aP (pLoadA 4 46), aP (pLoadA 1 47), aP (pLoadI 3 48), aP (pLoadA 5 49), fCall hdOut 5 222 50, aP (pLoadA 2 51), fRetA]
def cd_220 : List lI := cd_220_0 ++ (cd_220_1)
/-! java/util/PriorityQueue.siftDownComparable(ILjava/lang/Object;[Ljava/lang/Object;I)V -/
def cd_221_0 : List lI := [aP (pLoadA 1 1), aM (fCast [0, 19, 20, 35, 63, 91, 102, 103, 104, 105, 106, 107, 108, 109, 110, 112, 113, 114, 115, 116, 117, 118, 119, 120, 121, 123, 124, 125, 126, 127, 128, 129, 131, 132] 2), aP (pStA 4 3), aP (pLoadI 3 4), aP (pPush (.int 1) 5), aP (pBinI (fun x y => (x.toUInt32 >>> (y.toUInt32 &&& Int32.toUInt32 31)).toInt32) 6), aP (pStI 5 7), aP (pLoadI 0 8), aP (pLoadI 5 9), aP (pCmp fc_ge 52 10), aP (pLoadI 0 11), aP (pPush (.int 1) 12), aP (pBinI (fun x y => x <<< (y &&& 31)) 13), aP (pPush (.int 1) 14), aP (pBinI (· + ·) 15), aP (pStI 6 16), aP (pLoadA 2 17), aP (pLoadI 6 18), aM (fAld [6, 7, 8, 9, 10, 11] 19), aP (pStA 7 20), aP (pLoadI 6 21), aP (pPush (.int 1) 22), aP (pBinI (· + ·) 23), aP (pStI 8 24), aP (pLoadI 8 25), aP (pLoadI 3 26), aP (pCmp fc_ge 40 27), aP (pLoadA 7 28), aM (fCast [0, 19, 20, 35, 63, 91, 102, 103, 104, 105, 106, 107, 108, 109, 110, 112, 113, 114, 115, 116, 117, 118, 119, 120, 121, 123, 124, 125, 126, 127, 128, 129, 131, 132] 29), aP (pLoadA 2 30), aP (pLoadI 8 31), aM (fAld [6, 7, 8, 9, 10, 11] 32), fCallV hdOut 1 [(19, 103), (20, 111), (35, 203), (0, 240), (63, 879), (91, 1055), (102, 308), (103, 308), (104, 308), (105, 308), (106, 308), (107, 308), (108, 308), (109, 308), (110, 308), (112, 308), (113, 308), (114, 308), (115, 308), (116, 308), (117, 308), (118, 308), (119, 308), (120, 308), (121, 308), (123, 308), (124, 308), (125, 308), (126, 308), (127, 308), (128, 308), (129, 308), (131, 308), (132, 308)] 33, aP (pIf fz_le 40 34), aP (pLoadA 2 35), aP (pLoadI 8 36), aP (pDup 37), aP (pStI 6 38), aM (fAld [6, 7, 8, 9, 10, 11] 39), aP (pStA 7 40)]
def cd_221_1 : List lI := [aP (pLoadA 4 41), aP (pLoadA 7 42), fCallV hdOut 1 [(19, 103), (20, 111), (35, 203), (0, 240), (63, 879), (91, 1055), (102, 308), (103, 308), (104, 308), (105, 308), (106, 308), (107, 308), (108, 308), (109, 308), (110, 308), (112, 308), (113, 308), (114, 308), (115, 308), (116, 308), (117, 308), (118, 308), (119, 308), (120, 308), (121, 308), (123, 308), (124, 308), (125, 308), (126, 308), (127, 308), (128, 308), (129, 308), (131, 308), (132, 308)] 43, aP (pIf fz_gt 45 44), aP (pGoto 52), aP (pLoadA 2 46), aP (pLoadI 0 47), aP (pLoadA 7 48), aM (fRst raTab 49), aP (pLoadI 6 50), aP (pStI 0 51), aP (pGoto 7), aP (pLoadA 2 53), aP (pLoadI 0 54), aP (pLoadA 4 55), aM (fRst raTab 56), fRetV]
def cd_221 : List lI := cd_221_0 ++ (cd_221_1)
/-! java/util/PriorityQueue.siftDownUsingComparator(ILjava/lang/Object;[Ljava/lang/Object;ILjava/util/Comparator;)V -/
def cd_222_0 : List lI := [aP (pLoadI 3 1), aP (pPush (.int 1) 2), aP (pBinI (fun x y => (x.toUInt32 >>> (y.toUInt32 &&& Int32.toUInt32 31)).toInt32) 3), aP (pStI 5 4), aP (pLoadI 0 5), aP (pLoadI 5 6), aP (pCmp fc_ge 50 7), aP (pLoadI 0 8), aP (pPush (.int 1) 9), aP (pBinI (fun x y => x <<< (y &&& 31)) 10), aP (pPush (.int 1) 11), aP (pBinI (· + ·) 12), aP (pStI 6 13), aP (pLoadA 2 14), aP (pLoadI 6 15), aM (fAld [6, 7, 8, 9, 10, 11] 16), aP (pStA 7 17), aP (pLoadI 6 18), aP (pPush (.int 1) 19), aP (pBinI (· + ·) 20), aP (pStI 8 21), aP (pLoadI 8 22), aP (pLoadI 3 23), aP (pCmp fc_ge 37 24), aP (pLoadA 4 25), aP (pLoadA 7 26), aP (pLoadA 2 27), aP (pLoadI 8 28), aM (fAld [6, 7, 8, 9, 10, 11] 29), fStuck, aP (pIf fz_le 37 31), aP (pLoadA 2 32), aP (pLoadI 8 33), aP (pDup 34), aP (pStI 6 35), aM (fAld [6, 7, 8, 9, 10, 11] 36), aP (pStA 7 37), aP (pLoadA 4 38), aP (pLoadA 1 39), aP (pLoadA 7 40)]
def cd_222_1 : List lI := [fStuck, aP (pIf fz_gt 43 42), aP (pGoto 50), aP (pLoadA 2 44), aP (pLoadI 0 45), aP (pLoadA 7 46), aM (fRst raTab 47), aP (pLoadI 6 48), aP (pStI 0 49), aP (pGoto 4), aP (pLoadA 2 51), aP (pLoadI 0 52), aP (pLoadA 1 53), aM (fRst raTab 54), fRetV]
def cd_222 : List lI := cd_222_0 ++ (cd_222_1)
/-! java/lang/Object.<init>()V -/
def cd_223_0 : List lI := [fRetV]
def cd_223 : List lI := cd_223_0
/-! java/lang/System$2.getUTF16Char([BI)C -/
def cd_224_0 : List lI := [aP (pLoadA 1 1), aP (pLoadI 2 2), fCall hdOut 2 246 3, fRetI .char]
def cd_224 : List lI := cd_224_0
/-! java/lang/String.checkIndex(II)V -/
def cd_225_0 : List lI := [aP (pLoadI 0 1), aP (pLoadI 1 2), aM (fEnv 28 3), fCall hdOut 3 95 4, aP (pPop 5), fRetV]
def cd_225 : List lI := cd_225_0
/-! java/lang/String.indexOf(I)I -/
def cd_226_0 : List lI := [aP (pLoadA 0 1), aP (pLoadI 1 2), aP (pPush (.int 0) 3), fCallV hdOut 2 [(0, 227)] 4, fRetI .int]
def cd_226 : List lI := cd_226_0
/-! java/lang/String.indexOf(II)I -/
def cd_227_0 : List lI := [aP (pLoadA 0 1), fCallV hdOut 0 [(0, 228)] 2, aP (pIf fz_eq 11 3), aP (pLoadA 0 4), aM (fGet [(0, 0)] 5), aP (pLoadI 1 6), aP (pLoadI 2 7), aP (pLoadA 0 8), fCallV hdOut 0 [(0, 229)] 9, fCall hdOut 4 119 10, aP (pGoto 18), aP (pLoadA 0 12), aM (fGet [(0, 0)] 13), aP (pLoadI 1 14), aP (pLoadI 2 15), aP (pLoadA 0 16), fCallV hdOut 0 [(0, 229)] 17, fCall hdOut 4 248 18, fRetI .int]
def cd_227 : List lI := cd_227_0
/-! java/lang/String.isLatin1()Z -/
def cd_228_0 : List lI := [aM (fEnv 27 1), aP (pIf fz_eq 7 2), aP (pLoadA 0 3), aM (fGet [(0, 1)] 4), aP (pIf fz_ne 7 5), aP (pPush (.int 1) 6), aP (pGoto 8), aP (pPush (.int 0) 8), fRetI .boolean]
def cd_228 : List lI := cd_228_0
/-! java/lang/String.length()I -/
def cd_229_0 : List lI := [aP (pLoadA 0 1), aM (fGet [(0, 0)] 2), aM (fLen 3), aP (pLoadA 0 4), fCallV hdOut 0 [(0, 230)] 5, aP (pBinI (fun x y => x >>> (y &&& 31)) 6), fRetI .int]
def cd_229 : List lI := cd_229_0
/-! java/lang/String.coder()B -/
def cd_230_0 : List lI := [aM (fEnv 27 1), aP (pIf fz_eq 5 2), aP (pLoadA 0 3), aM (fGet [(0, 1)] 4), aP (pGoto 6), aP (pPush (.int 1) 6), fRetI .byte]
def cd_230 : List lI := cd_230_0
/-! java/lang/String.checkBoundsBeginEnd(III)V -/
def cd_231_0 : List lI := [aP (pLoadI 0 1), aP (pLoadI 1 2), aP (pLoadI 2 3), aM (fEnv 28 4), fCall hdOut 4 96 5, aP (pPop 6), fRetV]
def cd_231 : List lI := cd_231_0
/-! java/lang/String.checkBoundsOffCount(III)I -/
def cd_232_0 : List lI := [aP (pLoadI 0 1), aP (pLoadI 1 2), aP (pLoadI 2 3), aM (fEnv 28 4), fCall hdOut 4 97 5, fRetI .int]
def cd_232 : List lI := cd_232_0
/-! java/lang/String.getBytes([BIB)V -/
def cd_233_0 : List lI := [aP (pLoadA 0 1), fCallV hdOut 0 [(0, 230)] 2, aP (pLoadI 3 3), aP (pCmp fc_ne 16 4), aP (pLoadA 0 5), aM (fGet [(0, 0)] 6), aP (pPush (.int 0) 7), aP (pLoadA 1 8), aP (pLoadI 2 9), aP (pLoadI 3 10), aP (pBinI (fun x y => x <<< (y &&& 31)) 11), aP (pLoadA 0 12), aM (fGet [(0, 0)] 13), aM (fLen 14), aM (fCopy lPrims raTab 15), aP (pGoto 25), aP (pLoadA 0 17), aM (fGet [(0, 0)] 18), aP (pPush (.int 0) 19), aP (pLoadA 1 20), aP (pLoadI 2 21), aP (pLoadA 0 22), aM (fGet [(0, 0)] 23), aM (fLen 24), fCall hdOut 5 123 25, fRetV]
def cd_233 : List lI := cd_233_0
/-! java/lang/String.<init>(Ljava/lang/StringBuilder;)V -/
def cd_234_0 : List lI := [aP (pLoadA 0 1), aP (pLoadA 1 2), aP (pPush .null 3), fCallV hdOut 2 [(0, 235)] 4, fRetV]
def cd_234 : List lI := cd_234_0
/-! java/lang/String.<init>(Ljava/lang/AbstractStringBuilder;Ljava/lang/Void;)V -/
def cd_235_0 : List lI := [aP (pLoadA 0 1), fObj 2, aP (pLoadA 1 3), fCallV hdOut 0 [(35, 165)] 4, aP (pStA 3 5), aP (pLoadA 1 6), fCallV hdOut 0 [(35, 196)] 7, aP (pStI 4 8), aP (pLoadA 1 9), fCallV hdOut 0 [(35, 156)] 10, aP (pIf fz_eq 21 11), aP (pLoadA 0 12), aP (pPush (.int 0) 13), aM (fPut [(0, 1)] (.byte) 14), aP (pLoadA 0 15), aP (pLoadA 3 16), aP (pPush (.int 0) 17), aP (pLoadI 4 18), fCall hdOut 3 58 19, aM (fPut [(0, 0)] (.array .byte) 20), aP (pGoto 50), aM (fEnv 27 22), aP (pIf fz_eq 39 23), aP (pLoadA 1 24), aM (fGet [(35, 2)] 25), aP (pIf fz_eq 39 26), aP (pLoadA 0 27), aP (pLoadA 3 28), aP (pPush (.int 0) 29), aP (pLoadI 4 30), fCall hdOut 3 259 31, aM (fPut [(0, 0)] (.array .byte) 32), aP (pLoadA 0 33), aP (pLoadA 0 34), aM (fGet [(0, 0)] 35), aP (pLoadI 4 36), fCall hdOut 2 261 37, aM (fPut [(0, 1)] (.byte) 38), fRetV, aP (pLoadA 0 40)]
def cd_235_1 : List lI := [aP (pPush (.int 1) 41), aM (fPut [(0, 1)] (.byte) 42), aP (pLoadA 0 43), aP (pLoadA 3 44), aP (pPush (.int 0) 45), aP (pLoadI 4 46), aP (pPush (.int 1) 47), aP (pBinI (fun x y => x <<< (y &&& 31)) 48), fCall hdOut 3 58 49, aM (fPut [(0, 0)] (.array .byte) 50), fRetV]
def cd_235 : List lI := cd_235_0 ++ (cd_235_1)
/-! java/lang/String.<init>([BB)V -/
def cd_236_0 : List lI := [aP (pLoadA 0 1), fObj 2, aP (pLoadA 0 3), aP (pLoadA 1 4), aM (fPut [(0, 0)] (.array .byte) 5), aP (pLoadA 0 6), aP (pLoadI 2 7), aM (fPut [(0, 1)] (.byte) 8), fRetV]
def cd_236 : List lI := cd_236_0
/-! java/lang/String.isEmpty()Z -/
def cd_237_0 : List lI := [aP (pLoadA 0 1), aM (fGet [(0, 0)] 2), aM (fLen 3), aP (pIf fz_ne 6 4), aP (pPush (.int 1) 5), aP (pGoto 7), aP (pPush (.int 0) 7), fRetI .boolean]
def cd_237 : List lI := cd_237_0
/-! java/lang/String.charAt(I)C -/
def cd_238_0 : List lI := [aP (pLoadA 0 1), fCallV hdOut 0 [(0, 228)] 2, aP (pIf fz_eq 8 3), aP (pLoadA 0 4), aM (fGet [(0, 0)] 5), aP (pLoadI 1 6), fCall hdOut 2 124 7, fRetI .char, aP (pLoadA 0 9), aM (fGet [(0, 0)] 10), aP (pLoadI 1 11), fCall hdOut 2 263 12, fRetI .char]
def cd_238 : List lI := cd_238_0
/-! java/lang/String.equals(Ljava/lang/Object;)Z -/
def cd_239_0 : List lI := [aP (pLoadA 0 1), aP (pLoadA 1 2), aP (pAeq 3 5), aP (pPush (.int 1) 4), fRetI .boolean, aP (pLoadA 1 6), aM (fInst [0] 7), aP (pIf fz_eq 26 8), aP (pLoadA 1 9), aM (fCast [0] 10), aP (pStA 2 11), aM (fEnv 27 12), aP (pIf fz_eq 18 13), aP (pLoadA 0 14), aM (fGet [(0, 1)] 15), aP (pLoadA 2 16), aM (fGet [(0, 1)] 17), aP (pCmp fc_ne 26 18), aP (pLoadA 0 19), aM (fGet [(0, 0)] 20), aP (pLoadA 2 21), aM (fGet [(0, 0)] 22), fCall hdOut 2 125 23, aP (pIf fz_eq 26 24), aP (pPush (.int 1) 25), aP (pGoto 27), aP (pPush (.int 0) 27), fRetI .boolean]
def cd_239 : List lI := cd_239_0
/-! java/lang/String.compareTo(Ljava/lang/Object;)I -/
def cd_240_0 : List lI := [aP (pLoadA 0 1), aP (pLoadA 1 2), aM (fCast [0] 3), fCallV hdOut 1 [(0, 241)] 4, fRetI .int]
def cd_240 : List lI := cd_240_0
/-! java/lang/String.compareTo(Ljava/lang/String;)I -/
def cd_241_0 : List lI := [aP (pLoadA 0 1), aM (fGet [(0, 0)] 2), aP (pStA 2 3), aP (pLoadA 1 4), aM (fGet [(0, 0)] 5), aP (pStA 3 6), aP (pLoadA 0 7), fCallV hdOut 0 [(0, 230)] 8, aP (pStI 4 9), aP (pLoadI 4 10), aP (pLoadA 1 11), fCallV hdOut 0 [(0, 230)] 12, aP (pCmp fc_ne 23 13), aP (pLoadI 4 14), aP (pIf fz_ne 19 15), aP (pLoadA 2 16), aP (pLoadA 3 17), fCall hdOut 2 127 18, aP (pGoto 22), aP (pLoadA 2 20), aP (pLoadA 3 21), fCall hdOut 2 266 22, fRetI .int, aP (pLoadI 4 24), aP (pIf fz_ne 29 25), aP (pLoadA 2 26), aP (pLoadA 3 27), fCall hdOut 2 130 28, aP (pGoto 32), aP (pLoadA 2 30), aP (pLoadA 3 31), fCall hdOut 2 268 32, fRetI .int]
def cd_241 : List lI := cd_241_0
/-! java/lang/String.checkOffset(II)V -/
def cd_242_0 : List lI := [aP (pLoadI 0 1), aP (pLoadI 1 2), aP (pLoadI 1 3), aM (fEnv 28 4), fCall hdOut 4 96 5, aP (pPop 6), fRetV]
def cd_242 : List lI := cd_242_0
/-! java/lang/String.hashCode()I -/
def cd_243_0 : List lI := [aP (pLoadA 0 1), aM (fGet [(0, 2)] 2), aP (pStI 1 3), aP (pLoadI 1 4), aP (pIf fz_ne 28 5), aP (pLoadA 0 6), aM (fGet [(0, 3)] 7), aP (pIf fz_ne 28 8), aP (pLoadA 0 9), fCallV hdOut 0 [(0, 228)] 10, aP (pIf fz_eq 15 11), aP (pLoadA 0 12), aM (fGet [(0, 0)] 13), fCall hdOut 1 135 14, aP (pGoto 18), aP (pLoadA 0 16), aM (fGet [(0, 0)] 17), fCall hdOut 1 273 18, aP (pStI 1 19), aP (pLoadI 1 20), aP (pIf fz_ne 25 21), aP (pLoadA 0 22), aP (pPush (.int 1) 23), aM (fPut [(0, 3)] (.boolean) 24), aP (pGoto 28), aP (pLoadA 0 26), aP (pLoadI 1 27), aM (fPut [(0, 2)] (.int) 28), aP (pLoadI 1 29), fRetI .int]
def cd_243 : List lI := cd_243_0
/-! java/lang/StringUTF16.newBytesFor(I)[B -/
def cd_244_0 : List lI := [aP (pLoadI 0 1), fCall hdOut 1 245 2, aM (fNewa 2 (.int 0) 3), fRetA]
def cd_244 : List lI := cd_244_0
/-! java/lang/StringUTF16.newBytesLength(I)I -/
def cd_245_0 : List lI := [aP (pLoadI 0 1), aP (pIf fz_ge 6 2), fStuck, aP (pDup 4), fStuck, fThrow hdOut, aP (pLoadI 0 7), aP (pPush (.int 1073741823) 8), aP (pCmp fc_lt 25 9), fStuck, aP (pDup 11), fStuck, aP (pDup 13), fStuck, fStuck, fStuck, aP (pLoadI 0 17), fStuck, fStuck, fStuck, aP (pPush (.int 1073741823) 21), fStuck, fStuck, fStuck, fThrow hdOut, aP (pLoadI 0 26), aP (pPush (.int 1) 27), aP (pBinI (fun x y => x <<< (y &&& 31)) 28), fRetI .int]
def cd_245 : List lI := cd_245_0
/-! java/lang/StringUTF16.getChar([BI)C -/
def cd_246_0 : List lI := [aM (fEnv 29 1), aP (pIf fz_ne 13 2), aP (pLoadI 1 3), aP (pIf fz_lt 8 4), aP (pLoadI 1 5), aP (pLoadA 0 6), fCall hdOut 1 247 7, aP (pCmp fc_lt 13 8), fStuck, aP (pDup 10), fStuck, fStuck, fThrow hdOut, aP (pLoadI 1 14), aP (pPush (.int 1) 15), aP (pBinI (fun x y => x <<< (y &&& 31)) 16), aP (pStI 1 17), aP (pLoadA 0 18), aP (pLoadI 1 19), aP (pInc 1 1 20), aM (fAld [2, 3] 21), aP (pPush (.int 255) 22), aP (pBinI (· &&& ·) 23), aM (fEnv 30 24), aP (pBinI (fun x y => x <<< (y &&& 31)) 25), aP (pLoadA 0 26), aP (pLoadI 1 27), aM (fAld [2, 3] 28), aP (pPush (.int 255) 29), aP (pBinI (· &&& ·) 30), aM (fEnv 31 31), aP (pBinI (fun x y => x <<< (y &&& 31)) 32), aP (pBinI (· ||| ·) 33), aP (pUnI (fun x => (x.toUInt32 % 65536).toInt32) 34), fRetI .char]
def cd_246 : List lI := cd_246_0
/-! java/lang/StringUTF16.length([B)I -/
def cd_247_0 : List lI := [aP (pLoadA 0 1), aM (fLen 2), aP (pPush (.int 1) 3), aP (pBinI (fun x y => x >>> (y &&& 31)) 4), fRetI .int]
def cd_247 : List lI := cd_247_0
/-! java/lang/StringUTF16.indexOf([BIII)I -/
def cd_248_0 : List lI := [aP (pLoadI 2 1), aP (pPush (.int 0) 2), fCall hdOut 2 47 3, aP (pStI 2 4), aP (pLoadI 3 5), aP (pLoadA 0 6), aM (fLen 7), aP (pPush (.int 1) 8), aP (pBinI (fun x y => x >>> (y &&& 31)) 9), fCall hdOut 2 48 10, aP (pStI 3 11), aP (pLoadI 2 12), aP (pLoadI 3 13), aP (pCmp fc_lt 16 14), aP (pPush (.int (-1)) 15), fRetI .int, aP (pLoadI 1 17), aP (pPush (.int 65536) 18), aP (pCmp fc_ge 25 19), aP (pLoadA 0 20), aP (pLoadI 1 21), aP (pLoadI 2 22), aP (pLoadI 3 23), fCall hdOut 4 249 24, fRetI .int, aP (pLoadA 0 26), aP (pLoadI 1 27), aP (pLoadI 2 28), aP (pLoadI 3 29), fCall hdOut 4 252 30, fRetI .int]
def cd_248 : List lI := cd_248_0
/-! java/lang/StringUTF16.indexOfChar([BIII)I -/
def cd_249_0 : List lI := [aP (pLoadI 2 1), aP (pLoadI 3 2), aP (pLoadA 0 3), fCall hdOut 3 250 4, aP (pLoadA 0 5), aP (pLoadI 1 6), aP (pLoadI 2 7), aP (pLoadI 3 8), fCall hdOut 4 251 9, fRetI .int]
def cd_249 : List lI := cd_249_0
/-! java/lang/StringUTF16.checkBoundsBeginEnd(II[B)V -/
def cd_250_0 : List lI := [aP (pLoadI 0 1), aP (pLoadI 1 2), aP (pLoadA 2 3), fCall hdOut 1 247 4, fCall hdOut 3 231 5, fRetV]
def cd_250 : List lI := cd_250_0
/-! java/lang/StringUTF16.indexOfCharUnsafe([BIII)I -/
def cd_251_0 : List lI := [aP (pLoadI 2 1), aP (pStI 4 2), aP (pLoadI 4 3), aP (pLoadI 3 4), aP (pCmp fc_ge 14 5), aP (pLoadA 0 6), aP (pLoadI 4 7), fCall hdOut 2 246 8, aP (pLoadI 1 9), aP (pCmp fc_ne 12 10), aP (pLoadI 4 11), fRetI .int, aP (pInc 4 1 13), aP (pGoto 2), aP (pPush (.int (-1)) 15), fRetI .int]
def cd_251 : List lI := cd_251_0
/-! java/lang/StringUTF16.indexOfSupplementary([BIII)I -/
def cd_252_0 : List lI := [aP (pLoadI 1 1), fCall hdOut 1 188 2, aP (pIf fz_eq 36 3), aP (pLoadI 1 4), fCall hdOut 1 189 5, aP (pStI 4 6), aP (pLoadI 1 7), fCall hdOut 1 190 8, aP (pStI 5 9), aP (pLoadI 2 10), aP (pLoadI 3 11), aP (pLoadA 0 12), fCall hdOut 3 250 13, aP (pLoadI 2 14), aP (pStI 6 15), aP (pLoadI 6 16), aP (pLoadI 3 17), aP (pPush (.int 1) 18), aP (pBinI (· - ·) 19), aP (pCmp fc_ge 36 20), aP (pLoadA 0 21), aP (pLoadI 6 22), fCall hdOut 2 246 23, aP (pLoadI 4 24), aP (pCmp fc_ne 34 25), aP (pLoadA 0 26), aP (pLoadI 6 27), aP (pPush (.int 1) 28), aP (pBinI (· + ·) 29), fCall hdOut 2 246 30, aP (pLoadI 5 31), aP (pCmp fc_ne 34 32), aP (pLoadI 6 33), fRetI .int, aP (pInc 6 1 35), aP (pGoto 15), aP (pPush (.int (-1)) 37), fRetI .int]
def cd_252 : List lI := cd_252_0
/-! java/lang/StringUTF16.getChars(III[B)I -/
def cd_253_0 : List lI := [aP (pLoadI 1 1), aP (pLoadI 2 2), aP (pLoadA 3 3), fCall hdOut 3 250 4, aP (pLoadI 0 5), aP (pLoadI 2 6), aP (pLoadA 3 7), fCall hdOut 3 254 8, aP (pStI 4 9), aM (fEnv 29 10), aP (pIf fz_ne 18 11), aP (pLoadI 1 12), aP (pLoadI 4 13), aP (pCmp fc_eq 18 14), fStuck, aP (pDup 16), fStuck, fThrow hdOut, aP (pLoadI 4 19), fRetI .int]
def cd_253 : List lI := cd_253_0
/-! java/lang/StringUTF16.getChars(II[B)I -/
def cd_254_0 : List lI := [aP (pLoadI 1 1), aP (pStI 5 2), aP (pLoadI 0 3), aP (pIf fz_ge 6 4), aP (pPush (.int 1) 5), aP (pGoto 7), aP (pPush (.int 0) 7), aP (pStI 6 8), aP (pLoadI 6 9), aP (pIf fz_ne 13 10), aP (pLoadI 0 11), aP (pUnI (fun x => -x) 12), aP (pStI 0 13), aP (pLoadI 0 14), aP (pPush (.int (-100)) 15), aP (pCmp fc_gt 43 16), aP (pLoadI 0 17), aP (pPush (.int 100) 18), aP (pDivI (· / ·) 19), aP (pStI 3 20), aP (pLoadI 3 21), aP (pPush (.int 100) 22), aP (pBinI (· * ·) 23), aP (pLoadI 0 24), aP (pBinI (· - ·) 25), aP (pStI 4 26), aP (pLoadI 3 27), aP (pStI 0 28), aP (pLoadA 2 29), aP (pInc 5 (-1) 30), aP (pLoadI 5 31), aM (fEnv 20 32), aP (pLoadI 4 33), aM (fAld [2, 3] 34), fCall hdOut 3 255 35, aP (pLoadA 2 36), aP (pInc 5 (-1) 37), aP (pLoadI 5 38), aM (fEnv 21 39), aP (pLoadI 4 40)]
def cd_254_1 : List lI := [aM (fAld [2, 3] 41), fCall hdOut 3 255 42, aP (pGoto 13), aP (pLoadA 2 44), aP (pInc 5 (-1) 45), aP (pLoadI 5 46), aM (fEnv 20 47), aP (pLoadI 0 48), aP (pUnI (fun x => -x) 49), aM (fAld [2, 3] 50), fCall hdOut 3 255 51, aP (pLoadI 0 52), aP (pPush (.int (-9)) 53), aP (pCmp fc_ge 62 54), aP (pLoadA 2 55), aP (pInc 5 (-1) 56), aP (pLoadI 5 57), aM (fEnv 21 58), aP (pLoadI 0 59), aP (pUnI (fun x => -x) 60), aM (fAld [2, 3] 61), fCall hdOut 3 255 62, aP (pLoadI 6 63), aP (pIf fz_eq 69 64), aP (pLoadA 2 65), aP (pInc 5 (-1) 66), aP (pLoadI 5 67), aP (pPush (.int 45) 68), fCall hdOut 3 255 69, aP (pLoadI 5 70), fRetI .int]
def cd_254 : List lI := cd_254_0 ++ (cd_254_1)
/-! java/lang/StringUTF16.putChar([BII)V -/
def cd_255_0 : List lI := [aM (fEnv 29 1), aP (pIf fz_ne 13 2), aP (pLoadI 1 3), aP (pIf fz_lt 8 4), aP (pLoadI 1 5), aP (pLoadA 0 6), fCall hdOut 1 247 7, aP (pCmp fc_lt 13 8), fStuck, aP (pDup 10), fStuck, fStuck, fThrow hdOut, aP (pLoadI 1 14), aP (pPush (.int 1) 15), aP (pBinI (fun x y => x <<< (y &&& 31)) 16), aP (pStI 1 17), aP (pLoadA 0 18), aP (pLoadI 1 19), aP (pInc 1 1 20), aP (pLoadI 2 21), aM (fEnv 30 22), aP (pBinI (fun x y => x >>> (y &&& 31)) 23), aP (pUnI (fun x => x.toInt8.toInt32) 24), aM (fBst 2 3 25), aP (pLoadA 0 26), aP (pLoadI 1 27), aP (pLoadI 2 28), aM (fEnv 31 29), aP (pBinI (fun x y => x >>> (y &&& 31)) 30), aP (pUnI (fun x => x.toInt8.toInt32) 31), aM (fBst 2 3 32), fRetV]
def cd_255 : List lI := cd_255_0
/-! java/lang/StringUTF16.putCharsAt([BICCCC)I -/
def cd_256_0 : List lI := [aP (pLoadI 1 1), aP (pPush (.int 4) 2), aP (pBinI (· + ·) 3), aP (pStI 6 4), aP (pLoadI 1 5), aP (pLoadI 6 6), aP (pLoadA 0 7), fCall hdOut 3 250 8, aP (pLoadA 0 9), aP (pLoadI 1 10), aP (pInc 1 1 11), aP (pLoadI 2 12), fCall hdOut 3 255 13, aP (pLoadA 0 14), aP (pLoadI 1 15), aP (pInc 1 1 16), aP (pLoadI 3 17), fCall hdOut 3 255 18, aP (pLoadA 0 19), aP (pLoadI 1 20), aP (pInc 1 1 21), aP (pLoadI 4 22), fCall hdOut 3 255 23, aP (pLoadA 0 24), aP (pLoadI 1 25), aP (pInc 1 1 26), aP (pLoadI 5 27), fCall hdOut 3 255 28, aM (fEnv 29 29), aP (pIf fz_ne 37 30), aP (pLoadI 1 31), aP (pLoadI 6 32), aP (pCmp fc_eq 37 33), fStuck, aP (pDup 35), fStuck, fThrow hdOut, aP (pLoadI 6 38), fRetI .int]
def cd_256 : List lI := cd_256_0
/-! java/lang/StringUTF16.inflate([BI[BII)V -/
def cd_257_0 : List lI := [aP (pLoadI 3 1), aP (pLoadI 4 2), aP (pLoadA 2 3), fCall hdOut 3 258 4, aP (pPush (.int 0) 5), aP (pStI 5 6), aP (pLoadI 5 7), aP (pLoadI 4 8), aP (pCmp fc_ge 21 9), aP (pLoadA 2 10), aP (pLoadI 3 11), aP (pInc 3 1 12), aP (pLoadA 0 13), aP (pLoadI 1 14), aP (pInc 1 1 15), aM (fAld [2, 3] 16), aP (pPush (.int 255) 17), aP (pBinI (· &&& ·) 18), fCall hdOut 3 255 19, aP (pInc 5 1 20), aP (pGoto 6), fRetV]
def cd_257 : List lI := cd_257_0
/-! java/lang/StringUTF16.checkBoundsOffCount(II[B)V -/
def cd_258_0 : List lI := [aP (pLoadI 0 1), aP (pLoadI 1 2), aP (pLoadA 2 3), fCall hdOut 1 247 4, fCall hdOut 3 232 5, aP (pPop 6), fRetV]
def cd_258 : List lI := cd_258_0
/-! java/lang/StringUTF16.compress([BII)[B -/
def cd_259_0 : List lI := [aP (pLoadI 2 1), aM (fNewa 2 (.int 0) 2), aP (pStA 3 3), aP (pLoadA 0 4), aP (pLoadI 1 5), aP (pLoadA 3 6), aP (pPush (.int 0) 7), aP (pLoadI 2 8), fCall hdOut 5 260 9, aP (pStI 4 10), aP (pLoadI 4 11), aP (pLoadI 2 12), aP (pCmp fc_eq 38 13), aP (pLoadA 0 14), aP (pLoadI 1 15), aP (pPush (.int 1) 16), aP (pBinI (fun x y => x <<< (y &&& 31)) 17), aP (pLoadI 1 18), aP (pLoadI 2 19), aP (pBinI (· + ·) 20), fCall hdOut 1 245 21, fCall hdOut 3 58 22, aP (pStA 5 23), aP (pLoadA 5 24), aP (pLoadI 4 25), fCall hdOut 2 246 26, aP (pPush (.int 255) 27), aP (pCmp fc_gt 36 28), aP (pLoadA 5 29), aP (pPush (.int 0) 30), aP (pLoadA 3 31), aP (pPush (.int 0) 32), aP (pLoadI 2 33), fCall hdOut 5 260 34, aP (pLoadI 2 35), aP (pCmp fc_eq 38 36), aP (pLoadA 5 37), fRetA, aP (pLoadA 3 39), fRetA]
def cd_259 : List lI := cd_259_0
/-! java/lang/StringUTF16.compress([BI[BII)I -/
def cd_260_0 : List lI := [aP (pLoadI 1 1), aP (pLoadI 4 2), aP (pLoadA 0 3), fCall hdOut 3 258 4, aP (pPush (.int 0) 5), aP (pStI 5 6), aP (pLoadI 5 7), aP (pLoadI 4 8), aP (pCmp fc_ge 27 9), aP (pLoadA 0 10), aP (pLoadI 1 11), fCall hdOut 2 246 12, aP (pStI 6 13), aP (pLoadI 6 14), aP (pPush (.int 255) 15), aP (pCmp fc_le 18 16), aP (pLoadI 5 17), fRetI .int, aP (pLoadA 2 19), aP (pLoadI 3 20), aP (pLoadI 6 21), aP (pUnI (fun x => x.toInt8.toInt32) 22), aM (fBst 2 3 23), aP (pInc 1 1 24), aP (pInc 3 1 25), aP (pInc 5 1 26), aP (pGoto 6), aP (pLoadI 4 28), fRetI .int]
def cd_260 : List lI := cd_260_0
/-! java/lang/StringUTF16.coderFromArrayLen([BI)B -/
def cd_261_0 : List lI := [aP (pLoadI 1 1), aP (pLoadA 0 2), aM (fLen 3), aP (pBinI (· - ·) 4), aP (pPush (.int 31) 5), aP (pBinI (fun x y => (x.toUInt32 >>> (y.toUInt32 &&& Int32.toUInt32 31)).toInt32) 6), aP (pUnI (fun x => x.toInt8.toInt32) 7), fRetI .byte]
def cd_261 : List lI := cd_261_0
/-! java/lang/StringUTF16.newString([BII)Ljava/lang/String; -/
def cd_262_0 : List lI := [aP (pLoadI 2 1), aP (pIf fz_ne 4 2), aM (fEnv 32 3), fRetA, aM (fEnv 27 5), aP (pIf fz_eq 21 6), aP (pLoadA 0 7), aP (pLoadI 1 8), aP (pLoadI 2 9), fCall hdOut 3 259 10, aP (pStA 3 11), aP (pLoadA 3 12), aP (pLoadI 2 13), fCall hdOut 2 261 14, aP (pStI 4 15), aM (fNew 0 [.null, .int 0, .int 0, .int 0] 16), aP (pDup 17), aP (pLoadA 3 18), aP (pLoadI 4 19), fCallV hdOut 2 [(0, 236)] 20, fRetA, aP (pLoadI 1 22), aP (pLoadI 2 23), aP (pBinI (· + ·) 24), aP (pStI 3 25), aM (fNew 0 [.null, .int 0, .int 0, .int 0] 26), aP (pDup 27), aP (pLoadA 0 28), aP (pLoadI 1 29), aP (pPush (.int 1) 30), aP (pBinI (fun x y => x <<< (y &&& 31)) 31), aP (pLoadI 3 32), aP (pPush (.int 1) 33), aP (pBinI (fun x y => x <<< (y &&& 31)) 34), fCall hdOut 3 58 35, aP (pPush (.int 1) 36), fCallV hdOut 2 [(0, 236)] 37, fRetA]
def cd_262 : List lI := cd_262_0
/-! java/lang/StringUTF16.charAt([BI)C -/
def cd_263_0 : List lI := [aP (pLoadI 1 1), aP (pLoadA 0 2), fCall hdOut 2 264 3, aP (pLoadA 0 4), aP (pLoadI 1 5), fCall hdOut 2 246 6, fRetI .char]
def cd_263 : List lI := cd_263_0
/-! java/lang/StringUTF16.checkIndex(I[B)V -/
def cd_264_0 : List lI := [aP (pLoadI 0 1), aP (pLoadA 1 2), fCall hdOut 1 247 3, fCall hdOut 2 225 4, fRetV]
def cd_264 : List lI := cd_264_0
/-! java/lang/StringUTF16.fillNull([BII)V -/
def cd_265_0 : List lI := [aP (pLoadA 0 1), aP (pLoadI 1 2), aP (pPush (.int 1) 3), aP (pBinI (fun x y => x <<< (y &&& 31)) 4), aP (pLoadI 2 5), aP (pPush (.int 1) 6), aP (pBinI (fun x y => x <<< (y &&& 31)) 7), aP (pPush (.int 0) 8), fCall hdOut 4 62 9, fRetV]
def cd_265 : List lI := cd_265_0
/-! java/lang/StringUTF16.compareTo([B[B)I -/
def cd_266_0 : List lI := [aP (pLoadA 0 1), fCall hdOut 1 247 2, aP (pStI 2 3), aP (pLoadA 1 4), fCall hdOut 1 247 5, aP (pStI 3 6), aP (pLoadA 0 7), aP (pLoadA 1 8), aP (pLoadI 2 9), aP (pLoadI 3 10), fCall hdOut 4 267 11, fRetI .int]
def cd_266 : List lI := cd_266_0
/-! java/lang/StringUTF16.compareValues([B[BII)I -/
def cd_267_0 : List lI := [aP (pLoadI 2 1), aP (pLoadI 3 2), fCall hdOut 2 48 3, aP (pStI 4 4), aP (pPush (.int 0) 5), aP (pStI 5 6), aP (pLoadI 5 7), aP (pLoadI 4 8), aP (pCmp fc_ge 26 9), aP (pLoadA 0 10), aP (pLoadI 5 11), fCall hdOut 2 246 12, aP (pStI 6 13), aP (pLoadA 1 14), aP (pLoadI 5 15), fCall hdOut 2 246 16, aP (pStI 7 17), aP (pLoadI 6 18), aP (pLoadI 7 19), aP (pCmp fc_eq 24 20), aP (pLoadI 6 21), aP (pLoadI 7 22), aP (pBinI (· - ·) 23), fRetI .int, aP (pInc 5 1 25), aP (pGoto 6), aP (pLoadI 2 27), aP (pLoadI 3 28), aP (pBinI (· - ·) 29), fRetI .int]
def cd_267 : List lI := cd_267_0
/-! java/lang/StringUTF16.compareToLatin1([B[B)I -/
def cd_268_0 : List lI := [aP (pLoadA 1 1), aP (pLoadA 0 2), fCall hdOut 2 130 3, aP (pUnI (fun x => -x) 4), fRetI .int]
def cd_268 : List lI := cd_268_0
/-! java/lang/StringUTF16.compareTo([B[BII)I -/
def cd_269_0 : List lI := [aP (pLoadI 2 1), aP (pLoadA 0 2), fCall hdOut 2 270 3, aP (pLoadI 3 4), aP (pLoadA 1 5), fCall hdOut 2 270 6, aP (pLoadA 0 7), aP (pLoadA 1 8), aP (pLoadI 2 9), aP (pLoadI 3 10), fCall hdOut 4 267 11, fRetI .int]
def cd_269 : List lI := cd_269_0
/-! java/lang/StringUTF16.checkOffset(I[B)V -/
def cd_270_0 : List lI := [aP (pLoadI 0 1), aP (pLoadA 1 2), fCall hdOut 1 247 3, fCall hdOut 2 242 4, fRetV]
def cd_270 : List lI := cd_270_0
/-! java/lang/StringUTF16.compareToLatin1([B[BII)I -/
def cd_271_0 : List lI := [aP (pLoadA 1 1), aP (pLoadA 0 2), aP (pLoadI 3 3), aP (pLoadI 2 4), fCall hdOut 4 133 5, aP (pUnI (fun x => -x) 6), fRetI .int]
def cd_271 : List lI := cd_271_0
/-! java/lang/StringUTF16.putCharSB([BII)V -/
def cd_272_0 : List lI := [aP (pLoadI 1 1), aP (pLoadA 0 2), fCall hdOut 2 264 3, aP (pLoadA 0 4), aP (pLoadI 1 5), aP (pLoadI 2 6), fCall hdOut 3 255 7, fRetV]
def cd_272 : List lI := cd_272_0
/-! java/lang/StringUTF16.hashCode([B)I -/
def cd_273_0 : List lI := [aP (pLoadA 0 1), aM (fLen 2), aP (pSw (swL [(0, 3), (2, 5)] 9)), aP (pPush (.int 0) 4), aP (pGoto 18), aP (pLoadA 0 6), aP (pPush (.int 0) 7), fCall hdOut 2 246 8, aP (pGoto 18), aP (pLoadA 0 10), aP (pPush (.int 0) 11), aP (pLoadA 0 12), aM (fLen 13), aP (pPush (.int 1) 14), aP (pBinI (fun x y => x >>> (y &&& 31)) 15), aP (pPush (.int 0) 16), aP (pPush (.int 5) 17), fCall hdOut 5 40 18, fRetI .int]
def cd_273 : List lI := cd_273_0
/-! java/util/AbstractMap.<init>()V -/
def cd_274_0 : List lI := [aP (pLoadA 0 1), fObj 2, fRetV]
def cd_274 : List lI := cd_274_0
/-! java/util/AbstractMap.isEmpty()Z -/
def cd_275_0 : List lI := [aP (pLoadA 0 1), fCallV hdOut 0 [(42, 294)] 2, aP (pIf fz_ne 5 3), aP (pPush (.int 1) 4), aP (pGoto 6), aP (pPush (.int 0) 6), fRetI .boolean]
def cd_275 : List lI := cd_275_0
/-! java/util/TreeMap.<init>()V -/
def cd_276_0 : List lI := [aP (pLoadA 0 1), fCallV hdOut 0 [(41, 274), (42, 274)] 2, aP (pLoadA 0 3), aP (pPush (.int 0) 4), aM (fPut [(42, 4)] (.int) 5), aP (pLoadA 0 6), aP (pPush (.int 0) 7), aM (fPut [(42, 5)] (.int) 8), aP (pLoadA 0 9), aP (pPush .null 10), aM (fPut [(42, 2)] (.object "java/util/Comparator") 11), fRetV]
def cd_276 : List lI := cd_276_0
/-! java/util/TreeMap.successor(Ljava/util/TreeMap$Entry;)Ljava/util/TreeMap$Entry; -/
def cd_277_0 : List lI := [aP (pLoadA 0 1), aP (pNul 2 4), aP (pPush .null 3), fRetA, aP (pLoadA 0 5), aM (fGet [(23, 3)] 6), aP (pNul 19 7), aP (pLoadA 0 8), aM (fGet [(23, 3)] 9), aP (pStA 1 10), aP (pLoadA 1 11), aM (fGet [(23, 2)] 12), aP (pNul 17 13), aP (pLoadA 1 14), aM (fGet [(23, 2)] 15), aP (pStA 1 16), aP (pGoto 10), aP (pLoadA 1 18), fRetA, aP (pLoadA 0 20), aM (fGet [(23, 4)] 21), aP (pStA 1 22), aP (pLoadA 0 23), aP (pStA 2 24), aP (pLoadA 1 25), aP (pNul 36 26), aP (pLoadA 2 27), aP (pLoadA 1 28), aM (fGet [(23, 3)] 29), aP (pAeq 30 36), aP (pLoadA 1 31), aP (pStA 2 32), aP (pLoadA 1 33), aM (fGet [(23, 4)] 34), aP (pStA 1 35), aP (pGoto 24), aP (pLoadA 1 37), fRetA]
def cd_277 : List lI := cd_277_0
/-! java/util/TreeMap.get(Ljava/lang/Object;)Ljava/lang/Object; -/
def cd_278_0 : List lI := [aP (pLoadA 0 1), aP (pLoadA 1 2), fCallV hdOut 1 [(42, 279)] 3, aP (pStA 2 4), aP (pLoadA 2 5), aP (pNul 6 8), aP (pPush .null 7), aP (pGoto 10), aP (pLoadA 2 9), aM (fGet [(23, 1)] 10), fRetA]
def cd_278 : List lI := cd_278_0
/-! java/util/TreeMap.getEntry(Ljava/lang/Object;)Ljava/util/TreeMap$Entry; -/
def cd_279_0 : List lI := [aP (pLoadA 0 1), aM (fGet [(42, 2)] 2), aP (pNul 7 3), aP (pLoadA 0 4), aP (pLoadA 1 5), fCallV hdOut 1 [(42, 280)] 6, fRetA, aP (pLoadA 1 8), fCall hdOut 1 94 9, aP (pPop 10), aP (pLoadA 1 11), aM (fCast [0, 19, 20, 35, 63, 91, 102, 103, 104, 105, 106, 107, 108, 109, 110, 112, 113, 114, 115, 116, 117, 118, 119, 120, 121, 123, 124, 125, 126, 127, 128, 129, 131, 132] 12), aP (pStA 2 13), aP (pLoadA 0 14), aM (fGet [(42, 3)] 15), aP (pStA 3 16), aP (pLoadA 3 17), aP (pNul 38 18), aP (pLoadA 2 19), aP (pLoadA 3 20), aM (fGet [(23, 0)] 21), fCallV hdOut 1 [(19, 103), (20, 111), (35, 203), (0, 240), (63, 879), (91, 1055), (102, 308), (103, 308), (104, 308), (105, 308), (106, 308), (107, 308), (108, 308), (109, 308), (110, 308), (112, 308), (113, 308), (114, 308), (115, 308), (116, 308), (117, 308), (118, 308), (119, 308), (120, 308), (121, 308), (123, 308), (124, 308), (125, 308), (126, 308), (127, 308), (128, 308), (129, 308), (131, 308), (132, 308)] 22, aP (pStI 4 23), aP (pLoadI 4 24), aP (pIf fz_ge 29 25), aP (pLoadA 3 26), aM (fGet [(23, 2)] 27), aP (pStA 3 28), aP (pGoto 37), aP (pLoadI 4 30), aP (pIf fz_le 35 31), aP (pLoadA 3 32), aM (fGet [(23, 3)] 33), aP (pStA 3 34), aP (pGoto 37), aP (pLoadA 3 36), fRetA, aP (pGoto 16), aP (pPush .null 39), fRetA]
def cd_279 : List lI := cd_279_0
/-! java/util/TreeMap.getEntryUsingComparator(Ljava/lang/Object;)Ljava/util/TreeMap$Entry; -/
def cd_280_0 : List lI := [aP (pLoadA 1 1), aP (pStA 2 2), aP (pLoadA 0 3), aM (fGet [(42, 2)] 4), aP (pStA 3 5), aP (pLoadA 3 6), aP (pNul 33 7), aP (pLoadA 0 8), aM (fGet [(42, 3)] 9), aP (pStA 4 10), aP (pLoadA 4 11), aP (pNul 33 12), aP (pLoadA 3 13), aP (pLoadA 2 14), aP (pLoadA 4 15), aM (fGet [(23, 0)] 16), fStuck, aP (pStI 5 18), aP (pLoadI 5 19), aP (pIf fz_ge 24 20), aP (pLoadA 4 21), aM (fGet [(23, 2)] 22), aP (pStA 4 23), aP (pGoto 32), aP (pLoadI 5 25), aP (pIf fz_le 30 26), aP (pLoadA 4 27), aM (fGet [(23, 3)] 28), aP (pStA 4 29), aP (pGoto 32), aP (pLoadA 4 31), fRetA, aP (pGoto 10), aP (pPush .null 34), fRetA]
def cd_280 : List lI := cd_280_0
/-! java/util/TreeMap.put(Ljava/lang/Object;Ljava/lang/Object;)Ljava/lang/Object; -/
def cd_281_0 : List lI := [aP (pLoadA 0 1), aP (pLoadA 1 2), aP (pLoadA 2 3), aP (pPush (.int 1) 4), fCallV hdOut 3 [(42, 282)] 5, fRetA]
def cd_281 : List lI := cd_281_0
/-! java/util/TreeMap.put(Ljava/lang/Object;Ljava/lang/Object;Z)Ljava/lang/Object; -/
def cd_282_0 : List lI := [aP (pLoadA 0 1), aM (fGet [(42, 3)] 2), aP (pStA 4 3), aP (pLoadA 4 4), aP (pNul 5 11), aP (pLoadA 0 6), aP (pLoadA 1 7), aP (pLoadA 2 8), fCallV hdOut 2 [(42, 283)] 9, aP (pPush .null 10), fRetA, aP (pLoadA 0 12), aM (fGet [(42, 2)] 13), aP (pStA 7 14), aP (pLoadA 7 15), aP (pNul 51 16), aP (pLoadA 4 17), aP (pStA 6 18), aP (pLoadA 7 19), aP (pLoadA 1 20), aP (pLoadA 4 21), aM (fGet [(23, 0)] 22), fStuck, aP (pStI 5 24), aP (pLoadI 5 25), aP (pIf fz_ge 30 26), aP (pLoadA 4 27), aM (fGet [(23, 2)] 28), aP (pStA 4 29), aP (pGoto 48), aP (pLoadI 5 31), aP (pIf fz_le 36 32), aP (pLoadA 4 33), aM (fGet [(23, 3)] 34), aP (pStA 4 35), aP (pGoto 48), aP (pLoadA 4 37), aM (fGet [(23, 1)] 38), aP (pStA 8 39), aP (pLoadI 3 40)]
def cd_282_1 : List lI := [aP (pIf fz_ne 43 41), aP (pLoadA 8 42), aP (pNul 43 46), aP (pLoadA 4 44), aP (pLoadA 2 45), aM (fPut [(23, 1)] (.object "java/lang/Object") 46), aP (pLoadA 8 47), fRetA, aP (pLoadA 4 49), aP (pNul 50 16), aP (pGoto 90), aP (pLoadA 1 52), fCall hdOut 1 94 53, aP (pPop 54), aP (pLoadA 1 55), aM (fCast [0, 19, 20, 35, 63, 91, 102, 103, 104, 105, 106, 107, 108, 109, 110, 112, 113, 114, 115, 116, 117, 118, 119, 120, 121, 123, 124, 125, 126, 127, 128, 129, 131, 132] 56), aP (pStA 8 57), aP (pLoadA 4 58), aP (pStA 6 59), aP (pLoadA 8 60), aP (pLoadA 4 61), aM (fGet [(23, 0)] 62), fCallV hdOut 1 [(19, 103), (20, 111), (35, 203), (0, 240), (63, 879), (91, 1055), (102, 308), (103, 308), (104, 308), (105, 308), (106, 308), (107, 308), (108, 308), (109, 308), (110, 308), (112, 308), (113, 308), (114, 308), (115, 308), (116, 308), (117, 308), (118, 308), (119, 308), (120, 308), (121, 308), (123, 308), (124, 308), (125, 308), (126, 308), (127, 308), (128, 308), (129, 308), (131, 308), (132, 308)] 63, aP (pStI 5 64), aP (pLoadI 5 65), aP (pIf fz_ge 70 66), aP (pLoadA 4 67), aM (fGet [(23, 2)] 68), aP (pStA 4 69), aP (pGoto 88), aP (pLoadI 5 71), aP (pIf fz_le 76 72), aP (pLoadA 4 73), aM (fGet [(23, 3)] 74), aP (pStA 4 75), aP (pGoto 88), aP (pLoadA 4 77), aM (fGet [(23, 1)] 78), aP (pStA 9 79), aP (pLoadI 3 80)]
def cd_282_2 : List lI := [aP (pIf fz_ne 83 81), aP (pLoadA 9 82), aP (pNul 83 86), aP (pLoadA 4 84), aP (pLoadA 2 85), aM (fPut [(23, 1)] (.object "java/lang/Object") 86), aP (pLoadA 9 87), fRetA, aP (pLoadA 4 89), aP (pNul 90 57), aP (pLoadA 0 91), aP (pLoadA 1 92), aP (pLoadA 2 93), aP (pLoadA 6 94), aP (pLoadI 5 95), aP (pIf fz_ge 98 96), aP (pPush (.int 1) 97), aP (pGoto 99), aP (pPush (.int 0) 99), fCallV hdOut 4 [(42, 285)] 100, aP (pPush .null 101), fRetA]
def cd_282 : List lI := cd_282_0 ++ (cd_282_1 ++ (cd_282_2))
/-! java/util/TreeMap.addEntryToEmptyMap(Ljava/lang/Object;Ljava/lang/Object;)V -/
def cd_283_0 : List lI := [aP (pLoadA 0 1), aP (pLoadA 1 2), aP (pLoadA 1 3), fCallV hdOut 2 [(42, 284)] 4, aP (pPop 5), aP (pLoadA 0 6), aM (fNew 23 [.null, .null, .null, .null, .null, .int 0] 7), aP (pDup 8), aP (pLoadA 1 9), aP (pLoadA 2 10), aP (pPush .null 11), fCallV hdOut 3 [(23, 149)] 12, aM (fPut [(42, 3)] (.object "java/util/TreeMap$Entry") 13), aP (pLoadA 0 14), aP (pPush (.int 1) 15), aM (fPut [(42, 4)] (.int) 16), aP (pLoadA 0 17), aP (pDup 18), aM (fGet [(42, 5)] 19), aP (pPush (.int 1) 20), aP (pBinI (· + ·) 21), aM (fPut [(42, 5)] (.int) 22), fRetV]
def cd_283 : List lI := cd_283_0
/-! java/util/TreeMap.compare(Ljava/lang/Object;Ljava/lang/Object;)I -/
def cd_284_0 : List lI := [aP (pLoadA 0 1), aM (fGet [(42, 2)] 2), aP (pNul 3 8), aP (pLoadA 1 4), aM (fCast [0, 19, 20, 35, 63, 91, 102, 103, 104, 105, 106, 107, 108, 109, 110, 112, 113, 114, 115, 116, 117, 118, 119, 120, 121, 123, 124, 125, 126, 127, 128, 129, 131, 132] 5), aP (pLoadA 2 6), fCallV hdOut 1 [(19, 103), (20, 111), (35, 203), (0, 240), (63, 879), (91, 1055), (102, 308), (103, 308), (104, 308), (105, 308), (106, 308), (107, 308), (108, 308), (109, 308), (110, 308), (112, 308), (113, 308), (114, 308), (115, 308), (116, 308), (117, 308), (118, 308), (119, 308), (120, 308), (121, 308), (123, 308), (124, 308), (125, 308), (126, 308), (127, 308), (128, 308), (129, 308), (131, 308), (132, 308)] 7, aP (pGoto 13), aP (pLoadA 0 9), aM (fGet [(42, 2)] 10), aP (pLoadA 1 11), aP (pLoadA 2 12), fStuck, fRetI .int]
def cd_284 : List lI := cd_284_0
/-! java/util/TreeMap.addEntry(Ljava/lang/Object;Ljava/lang/Object;Ljava/util/TreeMap$Entry;Z)V -/
def cd_285_0 : List lI := [aM (fNew 23 [.null, .null, .null, .null, .null, .int 0] 1), aP (pDup 2), aP (pLoadA 1 3), aP (pLoadA 2 4), aP (pLoadA 3 5), fCallV hdOut 3 [(23, 149)] 6, aP (pStA 5 7), aP (pLoadI 4 8), aP (pIf fz_eq 13 9), aP (pLoadA 3 10), aP (pLoadA 5 11), aM (fPut [(23, 2)] (.object "java/util/TreeMap$Entry") 12), aP (pGoto 16), aP (pLoadA 3 14), aP (pLoadA 5 15), aM (fPut [(23, 3)] (.object "java/util/TreeMap$Entry") 16), aP (pLoadA 0 17), aP (pLoadA 5 18), fCallV hdOut 1 [(42, 286)] 19, aP (pLoadA 0 20), aP (pDup 21), aM (fGet [(42, 4)] 22), aP (pPush (.int 1) 23), aP (pBinI (· + ·) 24), aM (fPut [(42, 4)] (.int) 25), aP (pLoadA 0 26), aP (pDup 27), aM (fGet [(42, 5)] 28), aP (pPush (.int 1) 29), aP (pBinI (· + ·) 30), aM (fPut [(42, 5)] (.int) 31), fRetV]
def cd_285 : List lI := cd_285_0
/-! java/util/TreeMap.fixAfterInsertion(Ljava/util/TreeMap$Entry;)V -/
def cd_286_0 : List lI := [aP (pLoadA 1 1), aP (pPush (.int 0) 2), aM (fPut [(23, 5)] (.boolean) 3), aP (pLoadA 1 4), aP (pNul 122 5), aP (pLoadA 1 6), aP (pLoadA 0 7), aM (fGet [(42, 3)] 8), aP (pAeq 122 9), aP (pLoadA 1 10), aM (fGet [(23, 4)] 11), aM (fGet [(23, 5)] 12), aP (pIf fz_ne 122 13), aP (pLoadA 1 14), fCall hdOut 1 287 15, aP (pLoadA 1 16), fCall hdOut 1 287 17, fCall hdOut 1 287 18, fCall hdOut 1 288 19, aP (pAeq 20 71), aP (pLoadA 1 21), fCall hdOut 1 287 22, fCall hdOut 1 287 23, fCall hdOut 1 289 24, aP (pStA 2 25), aP (pLoadA 2 26), fCall hdOut 1 290 27, aP (pIf fz_ne 45 28), aP (pLoadA 1 29), fCall hdOut 1 287 30, aP (pPush (.int 1) 31), fCall hdOut 2 291 32, aP (pLoadA 2 33), aP (pPush (.int 1) 34), fCall hdOut 2 291 35, aP (pLoadA 1 36), fCall hdOut 1 287 37, fCall hdOut 1 287 38, aP (pPush (.int 0) 39), fCall hdOut 2 291 40]
def cd_286_1 : List lI := [aP (pLoadA 1 41), fCall hdOut 1 287 42, fCall hdOut 1 287 43, aP (pStA 1 44), aP (pGoto 70), aP (pLoadA 1 46), aP (pLoadA 1 47), fCall hdOut 1 287 48, fCall hdOut 1 289 49, aP (pAeq 50 56), aP (pLoadA 1 51), fCall hdOut 1 287 52, aP (pStA 1 53), aP (pLoadA 0 54), aP (pLoadA 1 55), fCallV hdOut 1 [(42, 292)] 56, aP (pLoadA 1 57), fCall hdOut 1 287 58, aP (pPush (.int 1) 59), fCall hdOut 2 291 60, aP (pLoadA 1 61), fCall hdOut 1 287 62, fCall hdOut 1 287 63, aP (pPush (.int 0) 64), fCall hdOut 2 291 65, aP (pLoadA 0 66), aP (pLoadA 1 67), fCall hdOut 1 287 68, fCall hdOut 1 287 69, fCallV hdOut 1 [(42, 293)] 70, aP (pGoto 3), aP (pLoadA 1 72), fCall hdOut 1 287 73, fCall hdOut 1 287 74, fCall hdOut 1 288 75, aP (pStA 2 76), aP (pLoadA 2 77), fCall hdOut 1 290 78, aP (pIf fz_ne 96 79), aP (pLoadA 1 80)]
def cd_286_2 : List lI := [fCall hdOut 1 287 81, aP (pPush (.int 1) 82), fCall hdOut 2 291 83, aP (pLoadA 2 84), aP (pPush (.int 1) 85), fCall hdOut 2 291 86, aP (pLoadA 1 87), fCall hdOut 1 287 88, fCall hdOut 1 287 89, aP (pPush (.int 0) 90), fCall hdOut 2 291 91, aP (pLoadA 1 92), fCall hdOut 1 287 93, fCall hdOut 1 287 94, aP (pStA 1 95), aP (pGoto 121), aP (pLoadA 1 97), aP (pLoadA 1 98), fCall hdOut 1 287 99, fCall hdOut 1 288 100, aP (pAeq 101 107), aP (pLoadA 1 102), fCall hdOut 1 287 103, aP (pStA 1 104), aP (pLoadA 0 105), aP (pLoadA 1 106), fCallV hdOut 1 [(42, 293)] 107, aP (pLoadA 1 108), fCall hdOut 1 287 109, aP (pPush (.int 1) 110), fCall hdOut 2 291 111, aP (pLoadA 1 112), fCall hdOut 1 287 113, fCall hdOut 1 287 114, aP (pPush (.int 0) 115), fCall hdOut 2 291 116, aP (pLoadA 0 117), aP (pLoadA 1 118), fCall hdOut 1 287 119, fCall hdOut 1 287 120]
def cd_286_3 : List lI := [fCallV hdOut 1 [(42, 292)] 121, aP (pGoto 3), aP (pLoadA 0 123), aM (fGet [(42, 3)] 124), aP (pPush (.int 1) 125), aM (fPut [(23, 5)] (.boolean) 126), fRetV]
def cd_286 : List lI := cd_286_0 ++ (cd_286_1 ++ (cd_286_2 ++ (cd_286_3)))
/-! java/util/TreeMap.parentOf(Ljava/util/TreeMap$Entry;)Ljava/util/TreeMap$Entry; -/
def cd_287_0 : List lI := [aP (pLoadA 0 1), aP (pNul 2 4), aP (pPush .null 3), aP (pGoto 6), aP (pLoadA 0 5), aM (fGet [(23, 4)] 6), fRetA]
def cd_287 : List lI := cd_287_0
/-! java/util/TreeMap.leftOf(Ljava/util/TreeMap$Entry;)Ljava/util/TreeMap$Entry; -/
def cd_288_0 : List lI := [aP (pLoadA 0 1), aP (pNul 2 4), aP (pPush .null 3), aP (pGoto 6), aP (pLoadA 0 5), aM (fGet [(23, 2)] 6), fRetA]
def cd_288 : List lI := cd_288_0
/-! java/util/TreeMap.rightOf(Ljava/util/TreeMap$Entry;)Ljava/util/TreeMap$Entry; -/
def cd_289_0 : List lI := [aP (pLoadA 0 1), aP (pNul 2 4), aP (pPush .null 3), aP (pGoto 6), aP (pLoadA 0 5), aM (fGet [(23, 3)] 6), fRetA]
def cd_289 : List lI := cd_289_0
/-! java/util/TreeMap.colorOf(Ljava/util/TreeMap$Entry;)Z -/
def cd_290_0 : List lI := [aP (pLoadA 0 1), aP (pNul 2 4), aP (pPush (.int 1) 3), aP (pGoto 6), aP (pLoadA 0 5), aM (fGet [(23, 5)] 6), fRetI .boolean]
def cd_290 : List lI := cd_290_0
/-! java/util/TreeMap.setColor(Ljava/util/TreeMap$Entry;Z)V -/
def cd_291_0 : List lI := [aP (pLoadA 0 1), aP (pNul 5 2), aP (pLoadA 0 3), aP (pLoadI 1 4), aM (fPut [(23, 5)] (.boolean) 5), fRetV]
def cd_291 : List lI := cd_291_0
/-! java/util/TreeMap.rotateLeft(Ljava/util/TreeMap$Entry;)V -/
def cd_292_0 : List lI := [aP (pLoadA 1 1), aP (pNul 47 2), aP (pLoadA 1 3), aM (fGet [(23, 3)] 4), aP (pStA 2 5), aP (pLoadA 1 6), aP (pLoadA 2 7), aM (fGet [(23, 2)] 8), aM (fPut [(23, 3)] (.object "java/util/TreeMap$Entry") 9), aP (pLoadA 2 10), aM (fGet [(23, 2)] 11), aP (pNul 16 12), aP (pLoadA 2 13), aM (fGet [(23, 2)] 14), aP (pLoadA 1 15), aM (fPut [(23, 4)] (.object "java/util/TreeMap$Entry") 16), aP (pLoadA 2 17), aP (pLoadA 1 18), aM (fGet [(23, 4)] 19), aM (fPut [(23, 4)] (.object "java/util/TreeMap$Entry") 20), aP (pLoadA 1 21), aM (fGet [(23, 4)] 22), aP (pNul 23 27), aP (pLoadA 0 24), aP (pLoadA 2 25), aM (fPut [(42, 3)] (.object "java/util/TreeMap$Entry") 26), aP (pGoto 41), aP (pLoadA 1 28), aM (fGet [(23, 4)] 29), aM (fGet [(23, 2)] 30), aP (pLoadA 1 31), aP (pAeq 32 37), aP (pLoadA 1 33), aM (fGet [(23, 4)] 34), aP (pLoadA 2 35), aM (fPut [(23, 2)] (.object "java/util/TreeMap$Entry") 36), aP (pGoto 41), aP (pLoadA 1 38), aM (fGet [(23, 4)] 39), aP (pLoadA 2 40)]
def cd_292_1 : List lI := [aM (fPut [(23, 3)] (.object "java/util/TreeMap$Entry") 41), aP (pLoadA 2 42), aP (pLoadA 1 43), aM (fPut [(23, 2)] (.object "java/util/TreeMap$Entry") 44), aP (pLoadA 1 45), aP (pLoadA 2 46), aM (fPut [(23, 4)] (.object "java/util/TreeMap$Entry") 47), fRetV]
def cd_292 : List lI := cd_292_0 ++ (cd_292_1)
/-! java/util/TreeMap.rotateRight(Ljava/util/TreeMap$Entry;)V -/
def cd_293_0 : List lI := [aP (pLoadA 1 1), aP (pNul 47 2), aP (pLoadA 1 3), aM (fGet [(23, 2)] 4), aP (pStA 2 5), aP (pLoadA 1 6), aP (pLoadA 2 7), aM (fGet [(23, 3)] 8), aM (fPut [(23, 2)] (.object "java/util/TreeMap$Entry") 9), aP (pLoadA 2 10), aM (fGet [(23, 3)] 11), aP (pNul 16 12), aP (pLoadA 2 13), aM (fGet [(23, 3)] 14), aP (pLoadA 1 15), aM (fPut [(23, 4)] (.object "java/util/TreeMap$Entry") 16), aP (pLoadA 2 17), aP (pLoadA 1 18), aM (fGet [(23, 4)] 19), aM (fPut [(23, 4)] (.object "java/util/TreeMap$Entry") 20), aP (pLoadA 1 21), aM (fGet [(23, 4)] 22), aP (pNul 23 27), aP (pLoadA 0 24), aP (pLoadA 2 25), aM (fPut [(42, 3)] (.object "java/util/TreeMap$Entry") 26), aP (pGoto 41), aP (pLoadA 1 28), aM (fGet [(23, 4)] 29), aM (fGet [(23, 3)] 30), aP (pLoadA 1 31), aP (pAeq 32 37), aP (pLoadA 1 33), aM (fGet [(23, 4)] 34), aP (pLoadA 2 35), aM (fPut [(23, 3)] (.object "java/util/TreeMap$Entry") 36), aP (pGoto 41), aP (pLoadA 1 38), aM (fGet [(23, 4)] 39), aP (pLoadA 2 40)]
def cd_293_1 : List lI := [aM (fPut [(23, 2)] (.object "java/util/TreeMap$Entry") 41), aP (pLoadA 2 42), aP (pLoadA 1 43), aM (fPut [(23, 3)] (.object "java/util/TreeMap$Entry") 44), aP (pLoadA 1 45), aP (pLoadA 2 46), aM (fPut [(23, 4)] (.object "java/util/TreeMap$Entry") 47), fRetV]
def cd_293 : List lI := cd_293_0 ++ (cd_293_1)
/-! java/util/TreeMap.size()I -/
def cd_294_0 : List lI := [aP (pLoadA 0 1), aM (fGet [(42, 4)] 2), fRetI .int]
def cd_294 : List lI := cd_294_0
/-! java/util/TreeMap.getFirstEntry()Ljava/util/TreeMap$Entry; -/
def cd_295_0 : List lI := [aP (pLoadA 0 1), aM (fGet [(42, 3)] 2), aP (pStA 1 3), aP (pLoadA 1 4), aP (pNul 12 5), aP (pLoadA 1 6), aM (fGet [(23, 2)] 7), aP (pNul 12 8), aP (pLoadA 1 9), aM (fGet [(23, 2)] 10), aP (pStA 1 11), aP (pGoto 5), aP (pLoadA 1 13), fRetA]
def cd_295 : List lI := cd_295_0
/-! java/util/TreeMap.entrySet()Ljava/util/Set; -/
def cd_296_0 : List lI := [aP (pLoadA 0 1), aM (fGet [(42, 6)] 2), aP (pStA 1 3), aP (pLoadA 1 4), aP (pNul 7 5), aP (pLoadA 1 6), aP (pGoto 14), aP (pLoadA 0 8), aM (fNew 31 [.null] 9), aP (pDup 10), aP (pLoadA 0 11), fCallV hdOut 1 [(31, 187)] 12, aP (pDupX1 13), aM (fPut [(42, 6)] (.object "java/util/TreeMap$EntrySet") 14), fRetA]
def cd_296 : List lI := cd_296_0
/-! java/util/TreeMap.containsKey(Ljava/lang/Object;)Z -/
def cd_297_0 : List lI := [aP (pLoadA 0 1), aP (pLoadA 1 2), fCallV hdOut 1 [(42, 279)] 3, aP (pNul 6 4), aP (pPush (.int 1) 5), aP (pGoto 7), aP (pPush (.int 0) 7), fRetI .boolean]
def cd_297 : List lI := cd_297_0
/-! java/util/TreeMap.lowerKey(Ljava/lang/Object;)Ljava/lang/Object; -/
def cd_298_0 : List lI := [aP (pLoadA 0 1), aP (pLoadA 1 2), fCallV hdOut 1 [(42, 299)] 3, fCall hdOut 1 300 4, fRetA]
def cd_298 : List lI := cd_298_0
/-! java/util/TreeMap.getLowerEntry(Ljava/lang/Object;)Ljava/util/TreeMap$Entry; -/
def cd_299_0 : List lI := [aP (pLoadA 0 1), aM (fGet [(42, 3)] 2), aP (pStA 2 3), aP (pLoadA 2 4), aP (pNul 49 5), aP (pLoadA 0 6), aP (pLoadA 1 7), aP (pLoadA 2 8), aM (fGet [(23, 0)] 9), fCallV hdOut 2 [(42, 284)] 10, aP (pStI 3 11), aP (pLoadI 3 12), aP (pIf fz_le 22 13), aP (pLoadA 2 14), aM (fGet [(23, 3)] 15), aP (pNul 20 16), aP (pLoadA 2 17), aM (fGet [(23, 3)] 18), aP (pStA 2 19), aP (pGoto 48), aP (pLoadA 2 21), fRetA, aP (pLoadA 2 23), aM (fGet [(23, 2)] 24), aP (pNul 29 25), aP (pLoadA 2 26), aM (fGet [(23, 2)] 27), aP (pStA 2 28), aP (pGoto 48), aP (pLoadA 2 30), aM (fGet [(23, 4)] 31), aP (pStA 4 32), aP (pLoadA 2 33), aP (pStA 5 34), aP (pLoadA 4 35), aP (pNul 46 36), aP (pLoadA 5 37), aP (pLoadA 4 38), aM (fGet [(23, 2)] 39), aP (pAeq 40 46)]
def cd_299_1 : List lI := [aP (pLoadA 4 41), aP (pStA 5 42), aP (pLoadA 4 43), aM (fGet [(23, 4)] 44), aP (pStA 4 45), aP (pGoto 34), aP (pLoadA 4 47), fRetA, aP (pGoto 3), aP (pPush .null 50), fRetA]
def cd_299 : List lI := cd_299_0 ++ (cd_299_1)
/-! java/util/TreeMap.keyOrNull(Ljava/util/TreeMap$Entry;)Ljava/lang/Object; -/
def cd_300_0 : List lI := [aP (pLoadA 0 1), aP (pNul 2 4), aP (pPush .null 3), aP (pGoto 6), aP (pLoadA 0 5), aM (fGet [(23, 0)] 6), fRetA]
def cd_300 : List lI := cd_300_0
/-! java/util/TreeMap.values()Ljava/util/Collection; -/
def cd_301_0 : List lI := [aP (pLoadA 0 1), aM (fGet [(42, 1)] 2), aP (pStA 1 3), aP (pLoadA 1 4), aP (pNul 5 13), aM (fNew 34 [.null] 6), aP (pDup 7), aP (pLoadA 0 8), fCallV hdOut 1 [(34, 194)] 9, aP (pStA 1 10), aP (pLoadA 0 11), aP (pLoadA 1 12), aM (fPut [(42, 1)] (.object "java/util/Collection") 13), aP (pLoadA 1 14), fRetA]
def cd_301 : List lI := cd_301_0
/-! java/util/TreeMap.remove(Ljava/lang/Object;)Ljava/lang/Object; -/
def cd_302_0 : List lI := [aP (pLoadA 0 1), aP (pLoadA 1 2), fCallV hdOut 1 [(42, 279)] 3, aP (pStA 2 4), aP (pLoadA 2 5), aP (pNul 6 8), aP (pPush .null 7), fRetA, aP (pLoadA 2 9), aM (fGet [(23, 1)] 10), aP (pStA 3 11), aP (pLoadA 0 12), aP (pLoadA 2 13), fCallV hdOut 1 [(42, 303)] 14, aP (pLoadA 3 15), fRetA]
def cd_302 : List lI := cd_302_0
/-! java/util/TreeMap.deleteEntry(Ljava/util/TreeMap$Entry;)V -/
def cd_303_0 : List lI := [aP (pLoadA 0 1), aP (pDup 2), aM (fGet [(42, 5)] 3), aP (pPush (.int 1) 4), aP (pBinI (· + ·) 5), aM (fPut [(42, 5)] (.int) 6), aP (pLoadA 0 7), aP (pDup 8), aM (fGet [(42, 4)] 9), aP (pPush (.int 1) 10), aP (pBinI (· - ·) 11), aM (fPut [(42, 4)] (.int) 12), aP (pLoadA 1 13), aM (fGet [(23, 2)] 14), aP (pNul 31 15), aP (pLoadA 1 16), aM (fGet [(23, 3)] 17), aP (pNul 31 18), aP (pLoadA 1 19), fCall hdOut 1 277 20, aP (pStA 2 21), aP (pLoadA 1 22), aP (pLoadA 2 23), aM (fGet [(23, 0)] 24), aM (fPut [(23, 0)] (.object "java/lang/Object") 25), aP (pLoadA 1 26), aP (pLoadA 2 27), aM (fGet [(23, 1)] 28), aM (fPut [(23, 1)] (.object "java/lang/Object") 29), aP (pLoadA 2 30), aP (pStA 1 31), aP (pLoadA 1 32), aM (fGet [(23, 2)] 33), aP (pNul 37 34), aP (pLoadA 1 35), aM (fGet [(23, 2)] 36), aP (pGoto 39), aP (pLoadA 1 38), aM (fGet [(23, 3)] 39), aP (pStA 2 40)]
def cd_303_1 : List lI := [aP (pLoadA 2 41), aP (pNul 84 42), aP (pLoadA 2 43), aP (pLoadA 1 44), aM (fGet [(23, 4)] 45), aM (fPut [(23, 4)] (.object "java/util/TreeMap$Entry") 46), aP (pLoadA 1 47), aM (fGet [(23, 4)] 48), aP (pNul 49 53), aP (pLoadA 0 50), aP (pLoadA 2 51), aM (fPut [(42, 3)] (.object "java/util/TreeMap$Entry") 52), aP (pGoto 67), aP (pLoadA 1 54), aP (pLoadA 1 55), aM (fGet [(23, 4)] 56), aM (fGet [(23, 2)] 57), aP (pAeq 58 63), aP (pLoadA 1 59), aM (fGet [(23, 4)] 60), aP (pLoadA 2 61), aM (fPut [(23, 2)] (.object "java/util/TreeMap$Entry") 62), aP (pGoto 67), aP (pLoadA 1 64), aM (fGet [(23, 4)] 65), aP (pLoadA 2 66), aM (fPut [(23, 3)] (.object "java/util/TreeMap$Entry") 67), aP (pLoadA 1 68), aP (pLoadA 1 69), aP (pLoadA 1 70), aP (pPush .null 71), aP (pDupX1 72), aM (fPut [(23, 4)] (.object "java/util/TreeMap$Entry") 73), aP (pDupX1 74), aM (fPut [(23, 3)] (.object "java/util/TreeMap$Entry") 75), aM (fPut [(23, 2)] (.object "java/util/TreeMap$Entry") 76), aP (pLoadA 1 77), aM (fGet [(23, 5)] 78), aP (pPush (.int 1) 79), aP (pCmp fc_ne 123 80)]
def cd_303_2 : List lI := [aP (pLoadA 0 81), aP (pLoadA 2 82), fCallV hdOut 1 [(42, 304)] 83, aP (pGoto 123), aP (pLoadA 1 85), aM (fGet [(23, 4)] 86), aP (pNul 87 91), aP (pLoadA 0 88), aP (pPush .null 89), aM (fPut [(42, 3)] (.object "java/util/TreeMap$Entry") 90), aP (pGoto 123), aP (pLoadA 1 92), aM (fGet [(23, 5)] 93), aP (pPush (.int 1) 94), aP (pCmp fc_ne 98 95), aP (pLoadA 0 96), aP (pLoadA 1 97), fCallV hdOut 1 [(42, 304)] 98, aP (pLoadA 1 99), aM (fGet [(23, 4)] 100), aP (pNul 123 101), aP (pLoadA 1 102), aP (pLoadA 1 103), aM (fGet [(23, 4)] 104), aM (fGet [(23, 2)] 105), aP (pAeq 106 111), aP (pLoadA 1 107), aM (fGet [(23, 4)] 108), aP (pPush .null 109), aM (fPut [(23, 2)] (.object "java/util/TreeMap$Entry") 110), aP (pGoto 120), aP (pLoadA 1 112), aP (pLoadA 1 113), aM (fGet [(23, 4)] 114), aM (fGet [(23, 3)] 115), aP (pAeq 116 120), aP (pLoadA 1 117), aM (fGet [(23, 4)] 118), aP (pPush .null 119), aM (fPut [(23, 3)] (.object "java/util/TreeMap$Entry") 120)]
def cd_303_3 : List lI := [aP (pLoadA 1 121), aP (pPush .null 122), aM (fPut [(23, 4)] (.object "java/util/TreeMap$Entry") 123), fRetV]
def cd_303 : List lI := cd_303_0 ++ (cd_303_1 ++ (cd_303_2 ++ (cd_303_3)))
/-! java/util/TreeMap.fixAfterDeletion(Ljava/util/TreeMap$Entry;)V -/
def cd_304_0 : List lI := [aP (pLoadA 1 1), aP (pLoadA 0 2), aM (fGet [(42, 3)] 3), aP (pAeq 171 4), aP (pLoadA 1 5), fCall hdOut 1 290 6, aP (pPush (.int 1) 7), aP (pCmp fc_ne 171 8), aP (pLoadA 1 9), aP (pLoadA 1 10), fCall hdOut 1 287 11, fCall hdOut 1 288 12, aP (pAeq 13 92), aP (pLoadA 1 14), fCall hdOut 1 287 15, fCall hdOut 1 289 16, aP (pStA 2 17), aP (pLoadA 2 18), fCall hdOut 1 290 19, aP (pIf fz_ne 35 20), aP (pLoadA 2 21), aP (pPush (.int 1) 22), fCall hdOut 2 291 23, aP (pLoadA 1 24), fCall hdOut 1 287 25, aP (pPush (.int 0) 26), fCall hdOut 2 291 27, aP (pLoadA 0 28), aP (pLoadA 1 29), fCall hdOut 1 287 30, fCallV hdOut 1 [(42, 292)] 31, aP (pLoadA 1 32), fCall hdOut 1 287 33, fCall hdOut 1 289 34, aP (pStA 2 35), aP (pLoadA 2 36), fCall hdOut 1 288 37, fCall hdOut 1 290 38, aP (pPush (.int 1) 39), aP (pCmp fc_ne 52 40)]
def cd_304_1 : List lI := [aP (pLoadA 2 41), fCall hdOut 1 289 42, fCall hdOut 1 290 43, aP (pPush (.int 1) 44), aP (pCmp fc_ne 52 45), aP (pLoadA 2 46), aP (pPush (.int 0) 47), fCall hdOut 2 291 48, aP (pLoadA 1 49), fCall hdOut 1 287 50, aP (pStA 1 51), aP (pGoto 91), aP (pLoadA 2 53), fCall hdOut 1 289 54, fCall hdOut 1 290 55, aP (pPush (.int 1) 56), aP (pCmp fc_ne 71 57), aP (pLoadA 2 58), fCall hdOut 1 288 59, aP (pPush (.int 1) 60), fCall hdOut 2 291 61, aP (pLoadA 2 62), aP (pPush (.int 0) 63), fCall hdOut 2 291 64, aP (pLoadA 0 65), aP (pLoadA 2 66), fCallV hdOut 1 [(42, 293)] 67, aP (pLoadA 1 68), fCall hdOut 1 287 69, fCall hdOut 1 289 70, aP (pStA 2 71), aP (pLoadA 2 72), aP (pLoadA 1 73), fCall hdOut 1 287 74, fCall hdOut 1 290 75, fCall hdOut 2 291 76, aP (pLoadA 1 77), fCall hdOut 1 287 78, aP (pPush (.int 1) 79), fCall hdOut 2 291 80]
def cd_304_2 : List lI := [aP (pLoadA 2 81), fCall hdOut 1 289 82, aP (pPush (.int 1) 83), fCall hdOut 2 291 84, aP (pLoadA 0 85), aP (pLoadA 1 86), fCall hdOut 1 287 87, fCallV hdOut 1 [(42, 292)] 88, aP (pLoadA 0 89), aM (fGet [(42, 3)] 90), aP (pStA 1 91), aP (pGoto 0), aP (pLoadA 1 93), fCall hdOut 1 287 94, fCall hdOut 1 288 95, aP (pStA 2 96), aP (pLoadA 2 97), fCall hdOut 1 290 98, aP (pIf fz_ne 114 99), aP (pLoadA 2 100), aP (pPush (.int 1) 101), fCall hdOut 2 291 102, aP (pLoadA 1 103), fCall hdOut 1 287 104, aP (pPush (.int 0) 105), fCall hdOut 2 291 106, aP (pLoadA 0 107), aP (pLoadA 1 108), fCall hdOut 1 287 109, fCallV hdOut 1 [(42, 293)] 110, aP (pLoadA 1 111), fCall hdOut 1 287 112, fCall hdOut 1 288 113, aP (pStA 2 114), aP (pLoadA 2 115), fCall hdOut 1 289 116, fCall hdOut 1 290 117, aP (pPush (.int 1) 118), aP (pCmp fc_ne 131 119), aP (pLoadA 2 120)]
def cd_304_3 : List lI := [fCall hdOut 1 288 121, fCall hdOut 1 290 122, aP (pPush (.int 1) 123), aP (pCmp fc_ne 131 124), aP (pLoadA 2 125), aP (pPush (.int 0) 126), fCall hdOut 2 291 127, aP (pLoadA 1 128), fCall hdOut 1 287 129, aP (pStA 1 130), aP (pGoto 170), aP (pLoadA 2 132), fCall hdOut 1 288 133, fCall hdOut 1 290 134, aP (pPush (.int 1) 135), aP (pCmp fc_ne 150 136), aP (pLoadA 2 137), fCall hdOut 1 289 138, aP (pPush (.int 1) 139), fCall hdOut 2 291 140, aP (pLoadA 2 141), aP (pPush (.int 0) 142), fCall hdOut 2 291 143, aP (pLoadA 0 144), aP (pLoadA 2 145), fCallV hdOut 1 [(42, 292)] 146, aP (pLoadA 1 147), fCall hdOut 1 287 148, fCall hdOut 1 288 149, aP (pStA 2 150), aP (pLoadA 2 151), aP (pLoadA 1 152), fCall hdOut 1 287 153, fCall hdOut 1 290 154, fCall hdOut 2 291 155, aP (pLoadA 1 156), fCall hdOut 1 287 157, aP (pPush (.int 1) 158), fCall hdOut 2 291 159, aP (pLoadA 2 160)]
def cd_304_4 : List lI := [fCall hdOut 1 288 161, aP (pPush (.int 1) 162), fCall hdOut 2 291 163, aP (pLoadA 0 164), aP (pLoadA 1 165), fCall hdOut 1 287 166, fCallV hdOut 1 [(42, 293)] 167, aP (pLoadA 0 168), aM (fGet [(42, 3)] 169), aP (pStA 1 170), aP (pGoto 0), aP (pLoadA 1 172), aP (pPush (.int 1) 173), fCall hdOut 2 291 174, fRetV]
def cd_304 : List lI := cd_304_0 ++ (cd_304_1 ++ (cd_304_2 ++ (cd_304_3 ++ (cd_304_4))))
/-! java/util/TreeMap.clear()V -/
def cd_305_0 : List lI := [aP (pLoadA 0 1), aP (pDup 2), aM (fGet [(42, 5)] 3), aP (pPush (.int 1) 4), aP (pBinI (· + ·) 5), aM (fPut [(42, 5)] (.int) 6), aP (pLoadA 0 7), aP (pPush (.int 0) 8), aM (fPut [(42, 4)] (.int) 9), aP (pLoadA 0 10), aP (pPush .null 11), aM (fPut [(42, 3)] (.object "java/util/TreeMap$Entry") 12), fRetV]
def cd_305 : List lI := cd_305_0
/-! java/util/TreeMap.firstKey()Ljava/lang/Object; -/
def cd_306_0 : List lI := [aP (pLoadA 0 1), fCallV hdOut 0 [(42, 295)] 2, fCall hdOut 1 307 3, fRetA]
def cd_306 : List lI := cd_306_0
/-! java/util/TreeMap.key(Ljava/util/TreeMap$Entry;)Ljava/lang/Object; -/
def cd_307_0 : List lI := [aP (pLoadA 0 1), aP (pNul 2 6), fStuck, aP (pDup 4), fStuck, fThrow hdOut, aP (pLoadA 0 7), aM (fGet [(23, 0)] 8), fRetA]
def cd_307 : List lI := cd_307_0
/-! java/lang/Enum.compareTo(Ljava/lang/Object;)I -/
def cd_308_0 : List lI := [aP (pLoadA 0 1), aP (pLoadA 1 2), aM (fCast [43, 102, 103, 104, 105, 106, 107, 108, 109, 110, 112, 113, 114, 115, 116, 117, 118, 119, 120, 121, 123, 124, 125, 126, 127, 128, 129, 131, 132] 3), fCallV hdOut 1 [(102, 309), (103, 309), (104, 309), (105, 309), (106, 309), (107, 309), (108, 309), (109, 309), (110, 309), (112, 309), (113, 309), (114, 309), (115, 309), (116, 309), (117, 309), (118, 309), (119, 309), (120, 309), (121, 309), (123, 309), (124, 309), (125, 309), (126, 309), (127, 309), (128, 309), (129, 309), (131, 309), (132, 309)] 4, fRetI .int]
def cd_308 : List lI := cd_308_0
/-! java/lang/Enum.compareTo(Ljava/lang/Enum;)I -/
def cd_309_0 : List lI := [aP (pLoadA 1 1), aP (pStA 2 2), aP (pLoadA 0 3), aP (pStA 3 4), aP (pLoadA 3 5), fStuck, aP (pLoadA 2 7), fStuck, aP (pAeq 18 9), aP (pLoadA 3 10), fCallV hdOut 0 [(102, 310), (103, 310), (104, 310), (105, 310), (106, 310), (107, 310), (108, 310), (109, 310), (110, 310), (112, 310), (113, 310), (114, 310), (115, 310), (116, 310), (117, 310), (118, 310), (119, 310), (120, 310), (121, 310), (123, 310), (124, 310), (125, 310), (126, 310), (127, 310), (128, 310), (129, 310), (131, 310), (132, 310)] 11, aP (pLoadA 2 12), fCallV hdOut 0 [(102, 310), (103, 310), (104, 310), (105, 310), (106, 310), (107, 310), (108, 310), (109, 310), (110, 310), (112, 310), (113, 310), (114, 310), (115, 310), (116, 310), (117, 310), (118, 310), (119, 310), (120, 310), (121, 310), (123, 310), (124, 310), (125, 310), (126, 310), (127, 310), (128, 310), (129, 310), (131, 310), (132, 310)] 13, aP (pAeq 18 14), fStuck, aP (pDup 16), fStuck, fThrow hdOut, aP (pLoadA 3 19), aM (fGet [(102, 0), (103, 0), (104, 0), (105, 0), (106, 0), (107, 0), (108, 0), (109, 0), (110, 0), (112, 0), (113, 0), (114, 0), (115, 0), (116, 0), (117, 0), (118, 0), (119, 0), (120, 0), (121, 0), (123, 0), (124, 0), (125, 0), (126, 0), (127, 0), (128, 0), (129, 0), (131, 0), (132, 0)] 20), aP (pLoadA 2 21), aM (fGet [(102, 0), (103, 0), (104, 0), (105, 0), (106, 0), (107, 0), (108, 0), (109, 0), (110, 0), (112, 0), (113, 0), (114, 0), (115, 0), (116, 0), (117, 0), (118, 0), (119, 0), (120, 0), (121, 0), (123, 0), (124, 0), (125, 0), (126, 0), (127, 0), (128, 0), (129, 0), (131, 0), (132, 0)] 22), aP (pBinI (· - ·) 23), fRetI .int]
def cd_309 : List lI := cd_309_0
/-! java/lang/Enum.getDeclaringClass()Ljava/lang/Class; -/
def cd_310_0 : List lI := [aP (pLoadA 0 1), fStuck, aP (pStA 1 3), aP (pLoadA 1 4), fStuck, aP (pStA 2 6), aP (pLoadA 2 7), fStuck, aP (pAeq 9 11), aP (pLoadA 1 10), aP (pGoto 12), aP (pLoadA 2 12), fRetA]
def cd_310 : List lI := cd_310_0
/-! java/lang/Enum.ordinal()I -/
def cd_311_0 : List lI := [aP (pLoadA 0 1), aM (fGet [(102, 0), (103, 0), (104, 0), (105, 0), (106, 0), (107, 0), (108, 0), (109, 0), (110, 0), (112, 0), (113, 0), (114, 0), (115, 0), (116, 0), (117, 0), (118, 0), (119, 0), (120, 0), (121, 0), (123, 0), (124, 0), (125, 0), (126, 0), (127, 0), (128, 0), (129, 0), (131, 0), (132, 0)] 2), fRetI .int]
def cd_311 : List lI := cd_311_0
/-! TowerHouseLaw.line(LTowerHouse;IIII[J)I -/
def cd_312_0 : List lI := [aP (pLoadA 5 1), aP (pPush (.int 0) 2), aP (pLoadA 0 3), aP (pLoadI 1 4), aP (pLoadI 2 5), aP (pLoadI 3 6), aP (pLoadI 4 7), fCallV (hdIf 11 (some (some 11)) (hdIf 12 (some (some 14)) (hdIf 33 (some none) (hdIf 69 (some none) (hdIf 75 (some none) (hdIf 88 (some none) (hdIf 133 (some none) hdNil))))))) 4 [(45, 393)] 8, aP (pI2L 9), aM (fLst 1 10), aP (pGoto 17), aP (pStA 6 12), aP (pPush (.int 1) 13), fRetI .int, aP (pStA 6 15), aP (pPush (.int 2) 16), fRetI .int, aP (pPush (.int 0) 18), fRetI .int]
def cd_312 : List lI := cd_312_0
/-! TowerHouseLaw.move(LTowerHouse;III[J)I -/
def cd_313_0 : List lI := [aP (pLoadA 4 1), aP (pPush (.int 0) 2), aP (pLoadA 0 3), aP (pLoadI 1 4), aP (pLoadI 2 5), aP (pLoadI 3 6), fCallV (hdIf 11 (some (some 13)) (hdIf 12 (some (some 16)) (hdIf 33 (some none) (hdIf 69 (some none) (hdIf 75 (some none) (hdIf 88 (some none) (hdIf 133 (some none) hdNil))))))) 3 [(45, 396)] 7, aP (pIf fz_eq 10 8), aP (pPush (.long 1) 9), aP (pGoto 11), aP (pPush (.long 0) 11), aM (fLst 1 12), aP (pGoto 19), aP (pStA 5 14), aP (pPush (.int 1) 15), fRetI .int, aP (pStA 5 17), aP (pPush (.int 2) 18), fRetI .int, aP (pPush (.int 0) 20), fRetI .int]
def cd_313 : List lI := cd_313_0
/-! TowerHouseLaw.door(LTowerHouse;IIII[J)I -/
def cd_314_0 : List lI := [aP (pLoadA 5 1), aP (pPush (.int 0) 2), aP (pLoadA 0 3), aP (pLoadI 1 4), aP (pLoadI 2 5), aP (pLoadI 3 6), aP (pLoadI 4 7), fCallV (hdIf 11 (some (some 11)) (hdIf 12 (some (some 14)) (hdIf 33 (some none) (hdIf 69 (some none) (hdIf 75 (some none) (hdIf 88 (some none) (hdIf 133 (some none) hdNil))))))) 4 [(45, 397)] 8, aP (pI2L 9), aM (fLst 1 10), aP (pGoto 17), aP (pStA 6 12), aP (pPush (.int 1) 13), fRetI .int, aP (pStA 6 15), aP (pPush (.int 2) 16), fRetI .int, aP (pPush (.int 0) 18), fRetI .int]
def cd_314 : List lI := cd_314_0
/-! TowerHouseLaw.find(LTowerHouse;[J)I -/
def cd_315_0 : List lI := [aP (pLoadA 1 1), aP (pPush (.int 0) 2), aP (pLoadA 0 3), fCallV (hdIf 11 (some none) (hdIf 12 (some (some 7)) (hdIf 33 (some none) (hdIf 69 (some none) (hdIf 75 (some none) (hdIf 88 (some none) (hdIf 133 (some none) hdNil))))))) 0 [(45, 398)] 4, aP (pI2L 5), aM (fLst 1 6), aP (pGoto 10), aP (pStA 2 8), aP (pPush (.int 1) 9), fRetI .int, aP (pPush (.int 0) 11), fRetI .int]
def cd_315 : List lI := cd_315_0
/-! TowerHouseLaw.count(LTowerHouse;I[J)I -/
def cd_316_0 : List lI := [aP (pLoadA 2 1), aP (pPush (.int 0) 2), aP (pLoadA 0 3), aP (pLoadI 1 4), fCallV (hdIf 11 (some (some 8)) (hdIf 12 (some (some 11)) (hdIf 33 (some none) (hdIf 69 (some none) (hdIf 75 (some none) (hdIf 88 (some none) (hdIf 133 (some none) hdNil))))))) 1 [(45, 399)] 5, aP (pI2L 6), aM (fLst 1 7), aP (pGoto 14), aP (pStA 3 9), aP (pPush (.int 1) 10), fRetI .int, aP (pStA 3 12), aP (pPush (.int 2) 13), fRetI .int, aP (pPush (.int 0) 15), fRetI .int]
def cd_316 : List lI := cd_316_0
/-! TowerHouseLaw.sides(LTowerHouse;II[J)I -/
def cd_317_0 : List lI := [aP (pLoadA 3 1), aP (pPush (.int 0) 2), aP (pLoadA 0 3), aP (pLoadI 1 4), aP (pLoadI 2 5), fCallV (hdIf 11 (some (some 9)) (hdIf 12 (some (some 12)) (hdIf 33 (some none) (hdIf 69 (some none) (hdIf 75 (some none) (hdIf 88 (some none) (hdIf 133 (some none) hdNil))))))) 2 [(45, 400)] 6, aP (pI2L 7), aM (fLst 1 8), aP (pGoto 15), aP (pStA 4 10), aP (pPush (.int 1) 11), fRetI .int, aP (pStA 4 13), aP (pPush (.int 2) 14), fRetI .int, aP (pPush (.int 0) 16), fRetI .int]
def cd_317 : List lI := cd_317_0
/-! TowerHouseLaw.side(LTowerHouse;IIII[J)I -/
def cd_318_0 : List lI := [aP (pLoadA 5 1), aP (pPush (.int 0) 2), aP (pLoadA 0 3), aP (pLoadI 1 4), aP (pLoadI 2 5), aP (pLoadI 3 6), aP (pLoadI 4 7), fCallV (hdIf 11 (some (some 11)) (hdIf 12 (some (some 14)) (hdIf 33 (some none) (hdIf 69 (some none) (hdIf 75 (some none) (hdIf 88 (some none) (hdIf 133 (some none) hdNil))))))) 4 [(45, 401)] 8, aP (pI2L 9), aM (fLst 1 10), aP (pGoto 17), aP (pStA 6 12), aP (pPush (.int 1) 13), fRetI .int, aP (pStA 6 15), aP (pPush (.int 2) 16), fRetI .int, aP (pPush (.int 0) 18), fRetI .int]
def cd_318 : List lI := cd_318_0
/-! TowerHouseLaw.size(LTowerHouse;II[J)I -/
def cd_319_0 : List lI := [aP (pLoadA 3 1), aP (pPush (.int 0) 2), aP (pLoadA 0 3), aP (pLoadI 1 4), aP (pLoadI 2 5), fCallV (hdIf 11 (some (some 9)) (hdIf 12 (some (some 12)) (hdIf 33 (some none) (hdIf 69 (some none) (hdIf 75 (some none) (hdIf 88 (some none) (hdIf 133 (some none) hdNil))))))) 2 [(45, 402)] 6, aP (pI2L 7), aM (fLst 1 8), aP (pGoto 15), aP (pStA 4 10), aP (pPush (.int 1) 11), fRetI .int, aP (pStA 4 13), aP (pPush (.int 2) 14), fRetI .int, aP (pPush (.int 0) 16), fRetI .int]
def cd_319 : List lI := cd_319_0
/-! TowerHouseLaw.at(LTowerHouse;II[J)I -/
def cd_320_0 : List lI := [aP (pLoadA 3 1), aP (pPush (.int 0) 2), aP (pLoadA 0 3), aP (pLoadI 1 4), aP (pLoadI 2 5), fCallV (hdIf 11 (some (some 9)) (hdIf 12 (some (some 12)) (hdIf 33 (some none) (hdIf 69 (some none) (hdIf 75 (some none) (hdIf 88 (some none) (hdIf 133 (some none) hdNil))))))) 2 [(45, 403)] 6, aP (pI2L 7), aM (fLst 1 8), aP (pGoto 15), aP (pStA 4 10), aP (pPush (.int 1) 11), fRetI .int, aP (pStA 4 13), aP (pPush (.int 2) 14), fRetI .int, aP (pPush (.int 0) 16), fRetI .int]
def cd_320 : List lI := cd_320_0
/-! TowerHouseLaw.between(LTowerHouse;II[J)I -/
def cd_321_0 : List lI := [aP (pLoadA 3 1), aP (pPush (.int 0) 2), aP (pLoadA 0 3), aP (pLoadI 1 4), aP (pLoadI 2 5), fCallV (hdIf 11 (some (some 9)) (hdIf 12 (some (some 12)) (hdIf 33 (some none) (hdIf 69 (some none) (hdIf 75 (some none) (hdIf 88 (some none) (hdIf 133 (some none) hdNil))))))) 2 [(45, 404)] 6, aP (pI2L 7), aM (fLst 1 8), aP (pGoto 15), aP (pStA 4 10), aP (pPush (.int 1) 11), fRetI .int, aP (pStA 4 13), aP (pPush (.int 2) 14), fRetI .int, aP (pPush (.int 0) 16), fRetI .int]
def cd_321 : List lI := cd_321_0
/-! TowerHouseLaw.way(LTowerHouse;II[J)I -/
def cd_322_0 : List lI := [aP (pLoadA 3 1), aP (pPush (.int 0) 2), aP (pLoadA 0 3), aP (pLoadI 1 4), aP (pLoadI 2 5), fCallV (hdIf 11 (some (some 9)) (hdIf 12 (some (some 12)) (hdIf 33 (some none) (hdIf 69 (some none) (hdIf 75 (some none) (hdIf 88 (some none) (hdIf 133 (some none) hdNil))))))) 2 [(45, 405)] 6, aP (pI2L 7), aM (fLst 1 8), aP (pGoto 15), aP (pStA 4 10), aP (pPush (.int 1) 11), fRetI .int, aP (pStA 4 13), aP (pPush (.int 2) 14), fRetI .int, aP (pPush (.int 0) 16), fRetI .int]
def cd_322 : List lI := cd_322_0
/-! TowerHouseLaw.name(LTowerHouse;II[J)I -/
def cd_323_0 : List lI := [aP (pLoadA 3 1), aP (pPush (.int 0) 2), aP (pLoadA 0 3), aP (pLoadI 1 4), aP (pLoadI 2 5), fCallV (hdIf 11 (some (some 9)) (hdIf 12 (some (some 12)) (hdIf 33 (some none) (hdIf 69 (some none) (hdIf 75 (some none) (hdIf 88 (some none) (hdIf 133 (some none) hdNil))))))) 2 [(45, 406)] 6, aP (pI2L 7), aM (fLst 1 8), aP (pGoto 15), aP (pStA 4 10), aP (pPush (.int 1) 11), fRetI .int, aP (pStA 4 13), aP (pPush (.int 2) 14), fRetI .int, aP (pPush (.int 0) 16), fRetI .int]
def cd_323 : List lI := cd_323_0
/-! TowerHouseLaw.nameOf(LTowerHouse;I[J)I -/
def cd_324_0 : List lI := [aP (pLoadA 2 1), aP (pPush (.int 0) 2), aP (pLoadA 0 3), aP (pLoadI 1 4), fCallV (hdIf 11 (some (some 8)) (hdIf 12 (some (some 11)) (hdIf 33 (some none) (hdIf 69 (some none) (hdIf 75 (some none) (hdIf 88 (some none) (hdIf 133 (some none) hdNil))))))) 1 [(45, 407)] 5, aP (pI2L 6), aM (fLst 1 7), aP (pGoto 14), aP (pStA 3 9), aP (pPush (.int 1) 10), fRetI .int, aP (pStA 3 12), aP (pPush (.int 2) 13), fRetI .int, aP (pPush (.int 0) 15), fRetI .int]
def cd_324 : List lI := cd_324_0
/-! TowerHouseLaw.say(LTowerHouse;J[J)I -/
def cd_325_0 : List lI := [aP (pLoadA 3 1), aP (pPush (.int 0) 2), aP (pLoadA 0 3), aP (pLoadL 1 4), fCallV (hdIf 11 (some (some 8)) (hdIf 12 (some (some 11)) (hdIf 33 (some none) (hdIf 69 (some none) (hdIf 75 (some none) (hdIf 88 (some none) (hdIf 133 (some none) hdNil))))))) 1 [(45, 408)] 5, aP (pI2L 6), aM (fLst 1 7), aP (pGoto 14), aP (pStA 4 9), aP (pPush (.int 1) 10), fRetI .int, aP (pStA 4 12), aP (pPush (.int 2) 13), fRetI .int, aP (pPush (.int 0) 15), fRetI .int]
def cd_325 : List lI := cd_325_0
/-! TowerHouseLaw.trim(LTowerHouse;I[J)I -/
def cd_326_0 : List lI := [aP (pLoadA 2 1), aP (pPush (.int 0) 2), aP (pLoadA 0 3), aP (pLoadI 1 4), fCallV (hdIf 11 (some (some 8)) (hdIf 12 (some none) (hdIf 33 (some none) (hdIf 69 (some none) (hdIf 75 (some none) (hdIf 88 (some none) (hdIf 133 (some none) hdNil))))))) 1 [(45, 409)] 5, aP (pI2L 6), aM (fLst 1 7), aP (pGoto 11), aP (pStA 3 9), aP (pPush (.int 1) 10), fRetI .int, aP (pPush (.int 0) 12), fRetI .int]
def cd_326 : List lI := cd_326_0
/-! TowerHouseLaw.fact(LTowerHouse;JI[J)I -/
def cd_327_0 : List lI := [aP (pLoadA 4 1), aP (pPush (.int 0) 2), aP (pLoadA 0 3), aP (pLoadL 1 4), aP (pLoadI 3 5), fCallV (hdIf 11 (some (some 8)) (hdIf 12 (some (some 11)) (hdIf 33 (some none) (hdIf 69 (some none) (hdIf 75 (some none) (hdIf 88 (some none) (hdIf 133 (some none) hdNil))))))) 2 [(45, 410)] 6, aM (fLst 1 7), aP (pGoto 14), aP (pStA 5 9), aP (pPush (.int 1) 10), fRetI .int, aP (pStA 5 12), aP (pPush (.int 2) 13), fRetI .int, aP (pPush (.int 0) 15), fRetI .int]
def cd_327 : List lI := cd_327_0
/-! TowerHouseLaw.measure(LTowerHouse;IIJ[J)I -/
def cd_328_0 : List lI := [aP (pLoadA 5 1), aP (pPush (.int 0) 2), aP (pLoadA 0 3), aP (pLoadI 1 4), aP (pLoadI 2 5), aP (pLoadL 3 6), fCallV (hdIf 11 (some (some 10)) (hdIf 12 (some (some 13)) (hdIf 33 (some none) (hdIf 69 (some none) (hdIf 75 (some none) (hdIf 88 (some none) (hdIf 133 (some none) hdNil))))))) 3 [(45, 411)] 7, aP (pI2L 8), aM (fLst 1 9), aP (pGoto 16), aP (pStA 6 11), aP (pPush (.int 1) 12), fRetI .int, aP (pStA 6 14), aP (pPush (.int 2) 15), fRetI .int, aP (pPush (.int 0) 17), fRetI .int]
def cd_328 : List lI := cd_328_0
/-! TowerHouseLaw.check(LTowerHouse;I[J)I -/
def cd_329_0 : List lI := [aP (pLoadA 2 1), aP (pPush (.int 0) 2), aP (pLoadA 0 3), aP (pLoadI 1 4), fCallV (hdIf 11 (some (some 8)) (hdIf 12 (some none) (hdIf 33 (some none) (hdIf 69 (some none) (hdIf 75 (some none) (hdIf 88 (some none) (hdIf 133 (some none) hdNil))))))) 1 [(45, 412)] 5, aP (pI2L 6), aM (fLst 1 7), aP (pGoto 11), aP (pStA 3 9), aP (pPush (.int 1) 10), fRetI .int, aP (pPush (.int 0) 12), fRetI .int]
def cd_329 : List lI := cd_329_0
/-! TowerHouseLaw.rule(LTowerHouse;II[J)I -/
def cd_330_0 : List lI := [aP (pLoadA 3 1), aP (pPush (.int 0) 2), aP (pLoadA 0 3), aP (pLoadI 1 4), aP (pLoadI 2 5), fCallV (hdIf 11 (some (some 8)) (hdIf 12 (some (some 11)) (hdIf 33 (some none) (hdIf 69 (some none) (hdIf 75 (some none) (hdIf 88 (some none) (hdIf 133 (some none) hdNil))))))) 2 [(45, 413)] 6, aM (fLst 1 7), aP (pGoto 14), aP (pStA 4 9), aP (pPush (.int 1) 10), fRetI .int, aP (pStA 4 12), aP (pPush (.int 2) 13), fRetI .int, aP (pPush (.int 0) 15), fRetI .int]
def cd_330 : List lI := cd_330_0
/-! TowerHouseLaw.build(LTowerHouse;I[J)I -/
def cd_331_0 : List lI := [aP (pLoadA 2 1), aP (pPush (.int 0) 2), aP (pLoadA 0 3), aP (pLoadI 1 4), fCallV (hdIf 11 (some (some 8)) (hdIf 12 (some (some 11)) (hdIf 33 (some none) (hdIf 69 (some none) (hdIf 75 (some none) (hdIf 88 (some none) (hdIf 133 (some none) hdNil))))))) 1 [(45, 414)] 5, aP (pI2L 6), aM (fLst 1 7), aP (pGoto 14), aP (pStA 3 9), aP (pPush (.int 1) 10), fRetI .int, aP (pStA 3 12), aP (pPush (.int 2) 13), fRetI .int, aP (pPush (.int 0) 15), fRetI .int]
def cd_331 : List lI := cd_331_0
/-! TowerHouseLaw.portal(LTowerHouse;II[J)I -/
def cd_332_0 : List lI := [aP (pLoadA 3 1), aP (pPush (.int 0) 2), aP (pLoadA 0 3), aP (pLoadI 1 4), aP (pLoadI 2 5), fCallV (hdIf 11 (some (some 9)) (hdIf 12 (some (some 12)) (hdIf 33 (some none) (hdIf 69 (some none) (hdIf 75 (some none) (hdIf 88 (some none) (hdIf 133 (some none) hdNil))))))) 2 [(45, 415)] 6, aP (pI2L 7), aM (fLst 1 8), aP (pGoto 15), aP (pStA 4 10), aP (pPush (.int 1) 11), fRetI .int, aP (pStA 4 13), aP (pPush (.int 2) 14), fRetI .int, aP (pPush (.int 0) 16), fRetI .int]
def cd_332 : List lI := cd_332_0
/-! TowerHouseLaw.person(LTowerHouse;II[J)I -/
def cd_333_0 : List lI := [aP (pLoadA 3 1), aP (pPush (.int 0) 2), aP (pLoadA 0 3), aP (pLoadI 1 4), aP (pLoadI 2 5), fCallV (hdIf 11 (some (some 9)) (hdIf 12 (some (some 12)) (hdIf 33 (some none) (hdIf 69 (some none) (hdIf 75 (some none) (hdIf 88 (some none) (hdIf 133 (some none) hdNil))))))) 2 [(45, 416)] 6, aP (pI2L 7), aM (fLst 1 8), aP (pGoto 15), aP (pStA 4 10), aP (pPush (.int 1) 11), fRetI .int, aP (pStA 4 13), aP (pPush (.int 2) 14), fRetI .int, aP (pPush (.int 0) 16), fRetI .int]
def cd_333 : List lI := cd_333_0
/-! TowerHouseLaw.card(LTowerHouse;II[J)I -/
def cd_334_0 : List lI := [aP (pLoadA 3 1), aP (pPush (.int 0) 2), aP (pLoadA 0 3), aP (pLoadI 1 4), aP (pLoadI 2 5), fCallV (hdIf 11 (some (some 9)) (hdIf 12 (some (some 12)) (hdIf 33 (some none) (hdIf 69 (some none) (hdIf 75 (some none) (hdIf 88 (some none) (hdIf 133 (some none) hdNil))))))) 2 [(45, 417)] 6, aP (pI2L 7), aM (fLst 1 8), aP (pGoto 15), aP (pStA 4 10), aP (pPush (.int 1) 11), fRetI .int, aP (pStA 4 13), aP (pPush (.int 2) 14), fRetI .int, aP (pPush (.int 0) 16), fRetI .int]
def cd_334 : List lI := cd_334_0
/-! TowerHouseLaw.right(LTowerHouse;IIIII[J)I -/
def cd_335_0 : List lI := [aP (pLoadA 6 1), aP (pPush (.int 0) 2), aP (pLoadA 0 3), aP (pLoadI 1 4), aP (pLoadI 2 5), aP (pLoadI 3 6), aP (pLoadI 4 7), aP (pLoadI 5 8), fCallV (hdIf 11 (some (some 12)) (hdIf 12 (some (some 15)) (hdIf 33 (some none) (hdIf 69 (some none) (hdIf 75 (some none) (hdIf 88 (some none) (hdIf 133 (some none) hdNil))))))) 5 [(45, 418)] 9, aP (pI2L 10), aM (fLst 1 11), aP (pGoto 18), aP (pStA 7 13), aP (pPush (.int 1) 14), fRetI .int, aP (pStA 7 16), aP (pPush (.int 2) 17), fRetI .int, aP (pPush (.int 0) 19), fRetI .int]
def cd_335 : List lI := cd_335_0
/-! TowerHouseLaw.end(LTowerHouse;II[J)I -/
def cd_336_0 : List lI := [aP (pLoadA 3 1), aP (pPush (.int 0) 2), aP (pLoadA 0 3), aP (pLoadI 1 4), aP (pLoadI 2 5), fCallV (hdIf 11 (some (some 9)) (hdIf 12 (some (some 12)) (hdIf 33 (some none) (hdIf 69 (some none) (hdIf 75 (some none) (hdIf 88 (some none) (hdIf 133 (some none) hdNil))))))) 2 [(45, 419)] 6, aP (pI2L 7), aM (fLst 1 8), aP (pGoto 15), aP (pStA 4 10), aP (pPush (.int 1) 11), fRetI .int, aP (pStA 4 13), aP (pPush (.int 2) 14), fRetI .int, aP (pPush (.int 0) 16), fRetI .int]
def cd_336 : List lI := cd_336_0
/-! TowerHouseLaw.lost(LTowerHouse;II[J)I -/
def cd_337_0 : List lI := [aP (pLoadA 3 1), aP (pPush (.int 0) 2), aP (pLoadA 0 3), aP (pLoadI 1 4), aP (pLoadI 2 5), fCallV (hdIf 11 (some (some 9)) (hdIf 12 (some (some 12)) (hdIf 33 (some none) (hdIf 69 (some none) (hdIf 75 (some none) (hdIf 88 (some none) (hdIf 133 (some none) hdNil))))))) 2 [(45, 420)] 6, aP (pI2L 7), aM (fLst 1 8), aP (pGoto 15), aP (pStA 4 10), aP (pPush (.int 1) 11), fRetI .int, aP (pStA 4 13), aP (pPush (.int 2) 14), fRetI .int, aP (pPush (.int 0) 16), fRetI .int]
def cd_337 : List lI := cd_337_0
/-! TowerHouseLaw.two(LTowerHouse;IZ[J)I -/
def cd_338_0 : List lI := [aP (pLoadA 3 1), aP (pPush (.int 0) 2), aP (pLoadA 0 3), aP (pLoadI 1 4), aP (pLoadI 2 5), fCallV (hdIf 11 (some (some 12)) (hdIf 12 (some (some 15)) (hdIf 33 (some none) (hdIf 69 (some none) (hdIf 75 (some none) (hdIf 88 (some none) (hdIf 133 (some none) hdNil))))))) 2 [(45, 421)] 6, aP (pIf fz_eq 9 7), aP (pPush (.long 1) 8), aP (pGoto 10), aP (pPush (.long 0) 10), aM (fLst 1 11), aP (pGoto 18), aP (pStA 4 13), aP (pPush (.int 1) 14), fRetI .int, aP (pStA 4 16), aP (pPush (.int 2) 17), fRetI .int, aP (pPush (.int 0) 19), fRetI .int]
def cd_338 : List lI := cd_338_0
/-! TowerHouseLaw.airlock(LTowerHouse;IIZ[J)I -/
def cd_339_0 : List lI := [aP (pLoadA 4 1), aP (pPush (.int 0) 2), aP (pLoadA 0 3), aP (pLoadI 1 4), aP (pLoadI 2 5), aP (pLoadI 3 6), fCallV (hdIf 11 (some (some 13)) (hdIf 12 (some (some 16)) (hdIf 33 (some none) (hdIf 69 (some none) (hdIf 75 (some none) (hdIf 88 (some none) (hdIf 133 (some none) hdNil))))))) 3 [(45, 422)] 7, aP (pIf fz_eq 10 8), aP (pPush (.long 1) 9), aP (pGoto 11), aP (pPush (.long 0) 11), aM (fLst 1 12), aP (pGoto 19), aP (pStA 5 14), aP (pPush (.int 1) 15), fRetI .int, aP (pStA 5 17), aP (pPush (.int 2) 18), fRetI .int, aP (pPush (.int 0) 20), fRetI .int]
def cd_339 : List lI := cd_339_0
/-! TowerHouseLaw.stands(LTowerHouse;IZ[J)I -/
def cd_340_0 : List lI := [aP (pLoadA 3 1), aP (pPush (.int 0) 2), aP (pLoadA 0 3), aP (pLoadI 1 4), aP (pLoadI 2 5), fCallV (hdIf 11 (some (some 9)) (hdIf 12 (some (some 12)) (hdIf 33 (some none) (hdIf 69 (some none) (hdIf 75 (some none) (hdIf 88 (some none) (hdIf 133 (some none) hdNil))))))) 2 [(45, 423)] 6, aP (pI2L 7), aM (fLst 1 8), aP (pGoto 15), aP (pStA 4 10), aP (pPush (.int 1) 11), fRetI .int, aP (pStA 4 13), aP (pPush (.int 2) 14), fRetI .int, aP (pPush (.int 0) 16), fRetI .int]
def cd_340 : List lI := cd_340_0
/-! TowerHouseLaw.off(LTowerHouse;IZ[J)I -/
def cd_341_0 : List lI := [aP (pLoadA 3 1), aP (pPush (.int 0) 2), aP (pLoadA 0 3), aP (pLoadI 1 4), aP (pLoadI 2 5), fCallV (hdIf 11 (some (some 9)) (hdIf 12 (some (some 12)) (hdIf 33 (some none) (hdIf 69 (some none) (hdIf 75 (some none) (hdIf 88 (some none) (hdIf 133 (some none) hdNil))))))) 2 [(45, 424)] 6, aP (pI2L 7), aM (fLst 1 8), aP (pGoto 15), aP (pStA 4 10), aP (pPush (.int 1) 11), fRetI .int, aP (pStA 4 13), aP (pPush (.int 2) 14), fRetI .int, aP (pPush (.int 0) 16), fRetI .int]
def cd_341 : List lI := cd_341_0
/-! TowerHouseLaw.ask(LTowerHouse;III[J)I -/
def cd_342_0 : List lI := [aP (pLoadA 4 1), aP (pPush (.int 0) 2), aP (pLoadA 0 3), aP (pLoadI 1 4), aP (pLoadI 2 5), aP (pLoadI 3 6), fCallV (hdIf 11 (some (some 10)) (hdIf 12 (some (some 13)) (hdIf 33 (some none) (hdIf 69 (some none) (hdIf 75 (some none) (hdIf 88 (some none) (hdIf 133 (some none) hdNil))))))) 3 [(45, 425)] 7, aP (pI2L 8), aM (fLst 1 9), aP (pGoto 16), aP (pStA 5 11), aP (pPush (.int 1) 12), fRetI .int, aP (pStA 5 14), aP (pPush (.int 2) 15), fRetI .int, aP (pPush (.int 0) 17), fRetI .int]
def cd_342 : List lI := cd_342_0
/-! TowerHouseLaw.both(LTowerHouse;IIII[J)I -/
def cd_343_0 : List lI := [aP (pLoadA 5 1), aP (pPush (.int 0) 2), aP (pLoadA 0 3), aP (pLoadI 1 4), aP (pLoadI 2 5), aP (pLoadI 3 6), aP (pLoadI 4 7), fCallV (hdIf 11 (some (some 11)) (hdIf 12 (some (some 14)) (hdIf 33 (some none) (hdIf 69 (some none) (hdIf 75 (some none) (hdIf 88 (some none) (hdIf 133 (some none) hdNil))))))) 4 [(45, 426)] 8, aP (pI2L 9), aM (fLst 1 10), aP (pGoto 17), aP (pStA 6 12), aP (pPush (.int 1) 13), fRetI .int, aP (pStA 6 15), aP (pPush (.int 2) 16), fRetI .int, aP (pPush (.int 0) 18), fRetI .int]
def cd_343 : List lI := cd_343_0
/-! TowerHouseLaw.where(LTowerHouse;II[J)I -/
def cd_344_0 : List lI := [aP (pLoadA 3 1), aP (pPush (.int 0) 2), aP (pLoadA 0 3), aP (pLoadI 1 4), aP (pLoadI 2 5), fCallV (hdIf 11 (some (some 9)) (hdIf 12 (some (some 12)) (hdIf 33 (some none) (hdIf 69 (some none) (hdIf 75 (some none) (hdIf 88 (some none) (hdIf 133 (some none) hdNil))))))) 2 [(45, 427)] 6, aP (pI2L 7), aM (fLst 1 8), aP (pGoto 15), aP (pStA 4 10), aP (pPush (.int 1) 11), fRetI .int, aP (pStA 4 13), aP (pPush (.int 2) 14), fRetI .int, aP (pPush (.int 0) 16), fRetI .int]
def cd_344 : List lI := cd_344_0
/-! TowerHouseLaw.inside(LTowerHouse;I[J)I -/
def cd_345_0 : List lI := [aP (pLoadA 2 1), aP (pPush (.int 0) 2), aP (pLoadA 0 3), aP (pLoadI 1 4), fCallV (hdIf 11 (some (some 8)) (hdIf 12 (some (some 11)) (hdIf 33 (some none) (hdIf 69 (some none) (hdIf 75 (some none) (hdIf 88 (some none) (hdIf 133 (some none) hdNil))))))) 1 [(45, 428)] 5, aP (pI2L 6), aM (fLst 1 7), aP (pGoto 14), aP (pStA 3 9), aP (pPush (.int 1) 10), fRetI .int, aP (pStA 3 12), aP (pPush (.int 2) 13), fRetI .int, aP (pPush (.int 0) 15), fRetI .int]
def cd_345 : List lI := cd_345_0
/-! TowerHouseLaw.against(LTowerHouse;II[J)I -/
def cd_346_0 : List lI := [aP (pLoadA 3 1), aP (pPush (.int 0) 2), aP (pLoadA 0 3), aP (pLoadI 1 4), aP (pLoadI 2 5), fCallV (hdIf 11 (some (some 9)) (hdIf 12 (some (some 12)) (hdIf 33 (some none) (hdIf 69 (some none) (hdIf 75 (some none) (hdIf 88 (some none) (hdIf 133 (some none) hdNil))))))) 2 [(45, 429)] 6, aP (pI2L 7), aM (fLst 1 8), aP (pGoto 15), aP (pStA 4 10), aP (pPush (.int 1) 11), fRetI .int, aP (pStA 4 13), aP (pPush (.int 2) 14), fRetI .int, aP (pPush (.int 0) 16), fRetI .int]
def cd_346 : List lI := cd_346_0
/-! TowerHouseLaw.unit(LTowerHouse;I[J)I -/
def cd_347_0 : List lI := [aP (pLoadA 2 1), aP (pPush (.int 0) 2), aP (pLoadA 0 3), aP (pLoadI 1 4), fCallV (hdIf 11 (some (some 8)) (hdIf 12 (some (some 11)) (hdIf 33 (some none) (hdIf 69 (some none) (hdIf 75 (some none) (hdIf 88 (some none) (hdIf 133 (some none) hdNil))))))) 1 [(45, 430)] 5, aP (pI2L 6), aM (fLst 1 7), aP (pGoto 14), aP (pStA 3 9), aP (pPush (.int 1) 10), fRetI .int, aP (pStA 3 12), aP (pPush (.int 2) 13), fRetI .int, aP (pPush (.int 0) 15), fRetI .int]
def cd_347 : List lI := cd_347_0
/-! TowerHouseLaw.sentence(LTowerHouse;IIIII[J)I -/
def cd_348_0 : List lI := [aP (pLoadA 6 1), aP (pPush (.int 0) 2), aP (pLoadA 0 3), aP (pLoadI 1 4), aP (pLoadI 2 5), aP (pLoadI 3 6), aP (pLoadI 4 7), aP (pLoadI 5 8), fCallV (hdIf 11 (some (some 12)) (hdIf 12 (some (some 15)) (hdIf 33 (some none) (hdIf 69 (some none) (hdIf 75 (some none) (hdIf 88 (some none) (hdIf 133 (some none) hdNil))))))) 5 [(45, 431)] 9, aP (pI2L 10), aM (fLst 1 11), aP (pGoto 18), aP (pStA 7 13), aP (pPush (.int 1) 14), fRetI .int, aP (pStA 7 16), aP (pPush (.int 2) 17), fRetI .int, aP (pPush (.int 0) 19), fRetI .int]
def cd_348 : List lI := cd_348_0
/-! TowerHouseLaw.cutText(LTowerHouse;I[J)I -/
def cd_349_0 : List lI := [aP (pLoadA 2 1), aP (pPush (.int 0) 2), aP (pLoadA 0 3), aP (pLoadI 1 4), fCallV (hdIf 11 (some (some 8)) (hdIf 12 (some (some 11)) (hdIf 33 (some none) (hdIf 69 (some none) (hdIf 75 (some none) (hdIf 88 (some none) (hdIf 133 (some none) hdNil))))))) 1 [(45, 432)] 5, aP (pI2L 6), aM (fLst 1 7), aP (pGoto 14), aP (pStA 3 9), aP (pPush (.int 1) 10), fRetI .int, aP (pStA 3 12), aP (pPush (.int 2) 13), fRetI .int, aP (pPush (.int 0) 15), fRetI .int]
def cd_349 : List lI := cd_349_0
/-! TowerHouseLaw.matrix(LTowerHouse;[J)I -/
def cd_350_0 : List lI := [aP (pLoadA 1 1), aP (pPush (.int 0) 2), aP (pLoadA 0 3), fCallV (hdIf 11 (some none) (hdIf 12 (some (some 7)) (hdIf 33 (some none) (hdIf 69 (some none) (hdIf 75 (some none) (hdIf 88 (some none) (hdIf 133 (some none) hdNil))))))) 0 [(45, 433)] 4, aP (pI2L 5), aM (fLst 1 6), aP (pGoto 10), aP (pStA 2 8), aP (pPush (.int 1) 9), fRetI .int, aP (pPush (.int 0) 11), fRetI .int]
def cd_350 : List lI := cd_350_0
/-! TowerHouseLaw.signal(LTowerHouse;II[J)I -/
def cd_351_0 : List lI := [aP (pLoadA 3 1), aP (pPush (.int 0) 2), aP (pLoadA 0 3), aP (pLoadI 1 4), aP (pLoadI 2 5), fCallV (hdIf 11 (some (some 9)) (hdIf 12 (some (some 12)) (hdIf 33 (some none) (hdIf 69 (some none) (hdIf 75 (some none) (hdIf 88 (some none) (hdIf 133 (some none) hdNil))))))) 2 [(45, 434)] 6, aP (pI2L 7), aM (fLst 1 8), aP (pGoto 15), aP (pStA 4 10), aP (pPush (.int 1) 11), fRetI .int, aP (pStA 4 13), aP (pPush (.int 2) 14), fRetI .int, aP (pPush (.int 0) 16), fRetI .int]
def cd_351 : List lI := cd_351_0
/-! TowerHouseLaw.fault(LTowerHouse;IZ[J)I -/
def cd_352_0 : List lI := [aP (pLoadA 3 1), aP (pPush (.int 0) 2), aP (pLoadA 0 3), aP (pLoadI 1 4), aP (pLoadI 2 5), fCallV (hdIf 11 (some (some 12)) (hdIf 12 (some (some 15)) (hdIf 33 (some none) (hdIf 69 (some none) (hdIf 75 (some none) (hdIf 88 (some none) (hdIf 133 (some none) hdNil))))))) 2 [(45, 435)] 6, aP (pIf fz_eq 9 7), aP (pPush (.long 1) 8), aP (pGoto 10), aP (pPush (.long 0) 10), aM (fLst 1 11), aP (pGoto 18), aP (pStA 4 13), aP (pPush (.int 1) 14), fRetI .int, aP (pStA 4 16), aP (pPush (.int 2) 17), fRetI .int, aP (pPush (.int 0) 19), fRetI .int]
def cd_352 : List lI := cd_352_0
/-! TowerHouseLaw.disable(LTowerHouse;II[J)I -/
def cd_353_0 : List lI := [aP (pLoadA 3 1), aP (pPush (.int 0) 2), aP (pLoadA 0 3), aP (pLoadI 1 4), aP (pLoadI 2 5), fCallV (hdIf 11 (some (some 9)) (hdIf 12 (some (some 12)) (hdIf 33 (some none) (hdIf 69 (some none) (hdIf 75 (some none) (hdIf 88 (some none) (hdIf 133 (some none) hdNil))))))) 2 [(45, 436)] 6, aP (pI2L 7), aM (fLst 1 8), aP (pGoto 15), aP (pStA 4 10), aP (pPush (.int 1) 11), fRetI .int, aP (pStA 4 13), aP (pPush (.int 2) 14), fRetI .int, aP (pPush (.int 0) 16), fRetI .int]
def cd_353 : List lI := cd_353_0
/-! TowerHouseLaw.attend(LTowerHouse;I[J)I -/
def cd_354_0 : List lI := [aP (pLoadA 2 1), aP (pPush (.int 0) 2), aP (pLoadA 0 3), aP (pLoadI 1 4), fCallV (hdIf 11 (some (some 8)) (hdIf 12 (some (some 11)) (hdIf 33 (some none) (hdIf 69 (some none) (hdIf 75 (some none) (hdIf 88 (some none) (hdIf 133 (some none) hdNil))))))) 1 [(45, 437)] 5, aP (pI2L 6), aM (fLst 1 7), aP (pGoto 14), aP (pStA 3 9), aP (pPush (.int 1) 10), fRetI .int, aP (pStA 3 12), aP (pPush (.int 2) 13), fRetI .int, aP (pPush (.int 0) 15), fRetI .int]
def cd_354 : List lI := cd_354_0
/-! TowerHouseLaw.reset(LTowerHouse;[J)I -/
def cd_355_0 : List lI := [aP (pLoadA 1 1), aP (pPush (.int 0) 2), aP (pLoadA 0 3), fCallV (hdIf 11 (some none) (hdIf 12 (some (some 7)) (hdIf 33 (some none) (hdIf 69 (some none) (hdIf 75 (some none) (hdIf 88 (some none) (hdIf 133 (some none) hdNil))))))) 0 [(45, 438)] 4, aP (pI2L 5), aM (fLst 1 6), aP (pGoto 10), aP (pStA 2 8), aP (pPush (.int 1) 9), fRetI .int, aP (pPush (.int 0) 11), fRetI .int]
def cd_355 : List lI := cd_355_0
/-! TowerHouseLaw.act(LTowerHouse;II[J)I -/
def cd_356_0 : List lI := [aP (pLoadA 3 1), aP (pPush (.int 0) 2), aP (pLoadA 0 3), aP (pLoadI 1 4), aP (pLoadI 2 5), fCallV (hdIf 11 (some (some 9)) (hdIf 12 (some (some 12)) (hdIf 33 (some none) (hdIf 69 (some none) (hdIf 75 (some none) (hdIf 88 (some none) (hdIf 133 (some none) hdNil))))))) 2 [(45, 439)] 6, aP (pI2L 7), aM (fLst 1 8), aP (pGoto 15), aP (pStA 4 10), aP (pPush (.int 1) 11), fRetI .int, aP (pStA 4 13), aP (pPush (.int 2) 14), fRetI .int, aP (pPush (.int 0) 16), fRetI .int]
def cd_356 : List lI := cd_356_0
/-! TowerHouseLaw.zone(LTowerHouse;II[J)I -/
def cd_357_0 : List lI := [aP (pLoadA 3 1), aP (pPush (.int 0) 2), aP (pLoadA 0 3), aP (pLoadI 1 4), aP (pLoadI 2 5), fCallV (hdIf 11 (some (some 9)) (hdIf 12 (some (some 12)) (hdIf 33 (some none) (hdIf 69 (some none) (hdIf 75 (some none) (hdIf 88 (some none) (hdIf 133 (some none) hdNil))))))) 2 [(45, 440)] 6, aP (pI2L 7), aM (fLst 1 8), aP (pGoto 15), aP (pStA 4 10), aP (pPush (.int 1) 11), fRetI .int, aP (pStA 4 13), aP (pPush (.int 2) 14), fRetI .int, aP (pPush (.int 0) 16), fRetI .int]
def cd_357 : List lI := cd_357_0
/-! TowerHouseLaw.event(LTowerHouse;II[J)I -/
def cd_358_0 : List lI := [aP (pLoadA 3 1), aP (pPush (.int 0) 2), aP (pLoadA 0 3), aP (pLoadI 1 4), aP (pLoadI 2 5), fCallV (hdIf 11 (some (some 9)) (hdIf 12 (some (some 12)) (hdIf 33 (some none) (hdIf 69 (some none) (hdIf 75 (some none) (hdIf 88 (some none) (hdIf 133 (some none) hdNil))))))) 2 [(45, 441)] 6, aP (pI2L 7), aM (fLst 1 8), aP (pGoto 15), aP (pStA 4 10), aP (pPush (.int 1) 11), fRetI .int, aP (pStA 4 13), aP (pPush (.int 2) 14), fRetI .int, aP (pPush (.int 0) 16), fRetI .int]
def cd_358 : List lI := cd_358_0
/-! TowerHouseLaw.block(LTowerHouse;I[J)I -/
def cd_359_0 : List lI := [aP (pLoadA 2 1), aP (pPush (.int 0) 2), aP (pLoadA 0 3), aP (pLoadI 1 4), fCallV (hdIf 11 (some (some 8)) (hdIf 12 (some (some 11)) (hdIf 33 (some none) (hdIf 69 (some none) (hdIf 75 (some none) (hdIf 88 (some none) (hdIf 133 (some none) hdNil))))))) 1 [(45, 442)] 5, aP (pI2L 6), aM (fLst 1 7), aP (pGoto 14), aP (pStA 3 9), aP (pPush (.int 1) 10), fRetI .int, aP (pStA 3 12), aP (pPush (.int 2) 13), fRetI .int, aP (pPush (.int 0) 15), fRetI .int]
def cd_359 : List lI := cd_359_0
/-! TowerHouseLaw.wire(LTowerHouse;III[J)I -/
def cd_360_0 : List lI := [aP (pLoadA 4 1), aP (pPush (.int 0) 2), aP (pLoadA 0 3), aP (pLoadI 1 4), aP (pLoadI 2 5), aP (pLoadI 3 6), fCallV (hdIf 11 (some (some 10)) (hdIf 12 (some (some 13)) (hdIf 33 (some none) (hdIf 69 (some none) (hdIf 75 (some none) (hdIf 88 (some none) (hdIf 133 (some none) hdNil))))))) 3 [(45, 443)] 7, aP (pI2L 8), aM (fLst 1 9), aP (pGoto 16), aP (pStA 5 11), aP (pPush (.int 1) 12), fRetI .int, aP (pStA 5 14), aP (pPush (.int 2) 15), fRetI .int, aP (pPush (.int 0) 17), fRetI .int]
def cd_360 : List lI := cd_360_0
/-! TowerHouseLaw.numbers(LTowerHouse;III)I -/
def cd_361_0 : List lI := [aP (pLoadA 0 1), aP (pLoadI 1 2), aP (pLoadI 2 3), aP (pLoadI 3 4), fCallV (hdIf 11 (some (some 6)) (hdIf 12 (some (some 9)) (hdIf 33 (some none) (hdIf 69 (some none) (hdIf 75 (some none) (hdIf 88 (some none) (hdIf 133 (some none) hdNil))))))) 3 [(45, 444)] 5, aP (pGoto 12), aP (pStA 4 7), aP (pPush (.int 1) 8), fRetI .int, aP (pStA 4 10), aP (pPush (.int 2) 11), fRetI .int, aP (pPush (.int 0) 13), fRetI .int]
def cd_361 : List lI := cd_361_0
/-! TowerHouseLaw.row(LTowerHouse;III[J)I -/
def cd_362_0 : List lI := [aP (pLoadA 4 1), aP (pPush (.int 0) 2), aP (pLoadA 0 3), aP (pLoadI 1 4), aP (pLoadI 2 5), aP (pLoadI 3 6), fCallV (hdIf 11 (some (some 10)) (hdIf 12 (some (some 13)) (hdIf 33 (some none) (hdIf 69 (some none) (hdIf 75 (some none) (hdIf 88 (some none) (hdIf 133 (some none) hdNil))))))) 3 [(45, 445)] 7, aP (pI2L 8), aM (fLst 1 9), aP (pGoto 16), aP (pStA 5 11), aP (pPush (.int 1) 12), fRetI .int, aP (pStA 5 14), aP (pPush (.int 2) 15), fRetI .int, aP (pPush (.int 0) 17), fRetI .int]
def cd_362 : List lI := cd_362_0
/-! TowerHouseLaw.safe(LTowerHouse;II[J)I -/
def cd_363_0 : List lI := [aP (pLoadA 3 1), aP (pPush (.int 0) 2), aP (pLoadA 0 3), aP (pLoadI 1 4), aP (pLoadI 2 5), fCallV (hdIf 11 (some (some 9)) (hdIf 12 (some (some 12)) (hdIf 33 (some none) (hdIf 69 (some none) (hdIf 75 (some none) (hdIf 88 (some none) (hdIf 133 (some none) hdNil))))))) 2 [(45, 446)] 6, aP (pI2L 7), aM (fLst 1 8), aP (pGoto 15), aP (pStA 4 10), aP (pPush (.int 1) 11), fRetI .int, aP (pStA 4 13), aP (pPush (.int 2) 14), fRetI .int, aP (pPush (.int 0) 16), fRetI .int]
def cd_363 : List lI := cd_363_0
/-! TowerHouseLaw.hand(LTowerHouse;IZI[J)I -/
def cd_364_0 : List lI := [aP (pLoadA 4 1), aP (pPush (.int 0) 2), aP (pLoadA 0 3), aP (pLoadI 1 4), aP (pLoadI 2 5), aP (pLoadI 3 6), fCallV (hdIf 11 (some (some 13)) (hdIf 12 (some (some 16)) (hdIf 33 (some none) (hdIf 69 (some none) (hdIf 75 (some none) (hdIf 88 (some none) (hdIf 133 (some none) hdNil))))))) 3 [(45, 447)] 7, aP (pIf fz_eq 10 8), aP (pPush (.long 1) 9), aP (pGoto 11), aP (pPush (.long 0) 11), aM (fLst 1 12), aP (pGoto 19), aP (pStA 5 14), aP (pPush (.int 1) 15), fRetI .int, aP (pStA 5 17), aP (pPush (.int 2) 18), fRetI .int, aP (pPush (.int 0) 20), fRetI .int]
def cd_364 : List lI := cd_364_0
/-! TowerHouseLaw.bind(LTowerHouse;II[J)I -/
def cd_365_0 : List lI := [aP (pLoadA 3 1), aP (pPush (.int 0) 2), aP (pLoadA 0 3), aP (pLoadI 1 4), aP (pLoadI 2 5), fCallV (hdIf 11 (some (some 9)) (hdIf 12 (some (some 12)) (hdIf 33 (some none) (hdIf 69 (some none) (hdIf 75 (some none) (hdIf 88 (some none) (hdIf 133 (some none) hdNil))))))) 2 [(45, 448)] 6, aP (pI2L 7), aM (fLst 1 8), aP (pGoto 15), aP (pStA 4 10), aP (pPush (.int 1) 11), fRetI .int, aP (pStA 4 13), aP (pPush (.int 2) 14), fRetI .int, aP (pPush (.int 0) 16), fRetI .int]
def cd_365 : List lI := cd_365_0
/-! TowerHouseLaw.point(LTowerHouse;II[J)I -/
def cd_366_0 : List lI := [aP (pLoadA 3 1), aP (pPush (.int 0) 2), aP (pLoadA 0 3), aP (pLoadI 1 4), aP (pLoadI 2 5), fCallV (hdIf 11 (some (some 9)) (hdIf 12 (some (some 12)) (hdIf 33 (some none) (hdIf 69 (some none) (hdIf 75 (some none) (hdIf 88 (some none) (hdIf 133 (some none) hdNil))))))) 2 [(45, 449)] 6, aP (pI2L 7), aM (fLst 1 8), aP (pGoto 15), aP (pStA 4 10), aP (pPush (.int 1) 11), fRetI .int, aP (pStA 4 13), aP (pPush (.int 2) 14), fRetI .int, aP (pPush (.int 0) 16), fRetI .int]
def cd_366 : List lI := cd_366_0
/-! TowerHouseLaw.pointAt(LTowerHouse;I[J)I -/
def cd_367_0 : List lI := [aP (pLoadA 2 1), aP (pPush (.int 0) 2), aP (pLoadA 0 3), aP (pLoadI 1 4), fCallV (hdIf 11 (some (some 8)) (hdIf 12 (some (some 11)) (hdIf 33 (some none) (hdIf 69 (some none) (hdIf 75 (some none) (hdIf 88 (some none) (hdIf 133 (some none) hdNil))))))) 1 [(45, 450)] 5, aP (pI2L 6), aM (fLst 1 7), aP (pGoto 14), aP (pStA 3 9), aP (pPush (.int 1) 10), fRetI .int, aP (pStA 3 12), aP (pPush (.int 2) 13), fRetI .int, aP (pPush (.int 0) 15), fRetI .int]
def cd_367 : List lI := cd_367_0
/-! TowerHouseLaw.order(LTowerHouse;[J)I -/
def cd_368_0 : List lI := [aP (pLoadA 1 1), aP (pPush (.int 0) 2), aP (pLoadA 0 3), fCallV (hdIf 11 (some none) (hdIf 12 (some (some 7)) (hdIf 33 (some none) (hdIf 69 (some none) (hdIf 75 (some none) (hdIf 88 (some none) (hdIf 133 (some none) hdNil))))))) 0 [(45, 451)] 4, aP (pI2L 5), aM (fLst 1 6), aP (pGoto 10), aP (pStA 2 8), aP (pPush (.int 1) 9), fRetI .int, aP (pPush (.int 0) 11), fRetI .int]
def cd_368 : List lI := cd_368_0
/-! TowerHouseLaw.out(LTowerHouse;II[J)I -/
def cd_369_0 : List lI := [aP (pLoadA 3 1), aP (pPush (.int 0) 2), aP (pLoadA 0 3), aP (pLoadI 1 4), aP (pLoadI 2 5), fCallV (hdIf 11 (some (some 9)) (hdIf 12 (some (some 12)) (hdIf 33 (some none) (hdIf 69 (some none) (hdIf 75 (some none) (hdIf 88 (some none) (hdIf 133 (some none) hdNil))))))) 2 [(45, 452)] 6, aP (pI2L 7), aM (fLst 1 8), aP (pGoto 15), aP (pStA 4 10), aP (pPush (.int 1) 11), fRetI .int, aP (pStA 4 13), aP (pPush (.int 2) 14), fRetI .int, aP (pPush (.int 0) 16), fRetI .int]
def cd_369 : List lI := cd_369_0
/-! TowerHouseLaw.failed(LTowerHouse;I[J)I -/
def cd_370_0 : List lI := [aP (pLoadA 2 1), aP (pPush (.int 0) 2), aP (pLoadA 0 3), aP (pLoadI 1 4), fCallV (hdIf 11 (some (some 8)) (hdIf 12 (some (some 11)) (hdIf 33 (some none) (hdIf 69 (some none) (hdIf 75 (some none) (hdIf 88 (some none) (hdIf 133 (some none) hdNil))))))) 1 [(45, 453)] 5, aP (pI2L 6), aM (fLst 1 7), aP (pGoto 14), aP (pStA 3 9), aP (pPush (.int 1) 10), fRetI .int, aP (pStA 3 12), aP (pPush (.int 2) 13), fRetI .int, aP (pPush (.int 0) 15), fRetI .int]
def cd_370 : List lI := cd_370_0
/-! TowerHouseLaw.address(LTowerHouse;II[J)I -/
def cd_371_0 : List lI := [aP (pLoadA 3 1), aP (pPush (.int 0) 2), aP (pLoadA 0 3), aP (pLoadI 1 4), aP (pLoadI 2 5), fCallV (hdIf 11 (some (some 9)) (hdIf 12 (some (some 12)) (hdIf 33 (some none) (hdIf 69 (some none) (hdIf 75 (some none) (hdIf 88 (some none) (hdIf 133 (some none) hdNil))))))) 2 [(45, 454)] 6, aP (pI2L 7), aM (fLst 1 8), aP (pGoto 15), aP (pStA 4 10), aP (pPush (.int 1) 11), fRetI .int, aP (pStA 4 13), aP (pPush (.int 2) 14), fRetI .int, aP (pPush (.int 0) 16), fRetI .int]
def cd_371 : List lI := cd_371_0
/-! TowerHouseLaw.listen(LTowerHouse;IIZ[J)I -/
def cd_372_0 : List lI := [aP (pLoadA 4 1), aP (pPush (.int 0) 2), aP (pLoadA 0 3), aP (pLoadI 1 4), aP (pLoadI 2 5), aP (pLoadI 3 6), fCallV (hdIf 11 (some (some 13)) (hdIf 12 (some (some 16)) (hdIf 33 (some none) (hdIf 69 (some none) (hdIf 75 (some none) (hdIf 88 (some none) (hdIf 133 (some none) hdNil))))))) 3 [(45, 455)] 7, aP (pIf fz_eq 10 8), aP (pPush (.long 1) 9), aP (pGoto 11), aP (pPush (.long 0) 11), aM (fLst 1 12), aP (pGoto 19), aP (pStA 5 14), aP (pPush (.int 1) 15), fRetI .int, aP (pStA 5 17), aP (pPush (.int 2) 18), fRetI .int, aP (pPush (.int 0) 20), fRetI .int]
def cd_372 : List lI := cd_372_0
/-! TowerHouseLaw.busy(LTowerHouse;IZ[J)I -/
def cd_373_0 : List lI := [aP (pLoadA 3 1), aP (pPush (.int 0) 2), aP (pLoadA 0 3), aP (pLoadI 1 4), aP (pLoadI 2 5), fCallV (hdIf 11 (some (some 12)) (hdIf 12 (some (some 15)) (hdIf 33 (some none) (hdIf 69 (some none) (hdIf 75 (some none) (hdIf 88 (some none) (hdIf 133 (some none) hdNil))))))) 2 [(45, 456)] 6, aP (pIf fz_eq 9 7), aP (pPush (.long 1) 8), aP (pGoto 10), aP (pPush (.long 0) 10), aM (fLst 1 11), aP (pGoto 18), aP (pStA 4 13), aP (pPush (.int 1) 14), fRetI .int, aP (pStA 4 16), aP (pPush (.int 2) 17), fRetI .int, aP (pPush (.int 0) 19), fRetI .int]
def cd_373 : List lI := cd_373_0
/-! TowerHouseLaw.send(LTowerHouse;IIIZII[J)I -/
def cd_374_0 : List lI := [aP (pLoadA 7 1), aP (pPush (.int 0) 2), aP (pLoadA 0 3), aP (pLoadI 1 4), aP (pLoadI 2 5), aP (pLoadI 3 6), aP (pLoadI 4 7), aP (pLoadI 5 8), aP (pLoadI 6 9), fCallV (hdIf 11 (some (some 13)) (hdIf 12 (some (some 16)) (hdIf 33 (some none) (hdIf 69 (some none) (hdIf 75 (some none) (hdIf 88 (some none) (hdIf 133 (some none) hdNil))))))) 6 [(45, 457)] 10, aP (pI2L 11), aM (fLst 1 12), aP (pGoto 19), aP (pStA 8 14), aP (pPush (.int 1) 15), fRetI .int, aP (pStA 8 17), aP (pPush (.int 2) 18), fRetI .int, aP (pPush (.int 0) 20), fRetI .int]
def cd_374 : List lI := cd_374_0
/-! TowerHouseLaw.disturb(LTowerHouse;I[J)I -/
def cd_375_0 : List lI := [aP (pLoadA 2 1), aP (pPush (.int 0) 2), aP (pLoadA 0 3), aP (pLoadI 1 4), fCallV (hdIf 11 (some (some 11)) (hdIf 12 (some (some 14)) (hdIf 33 (some none) (hdIf 69 (some none) (hdIf 75 (some none) (hdIf 88 (some none) (hdIf 133 (some none) hdNil))))))) 1 [(45, 458)] 5, aP (pIf fz_eq 8 6), aP (pPush (.long 1) 7), aP (pGoto 9), aP (pPush (.long 0) 9), aM (fLst 1 10), aP (pGoto 17), aP (pStA 3 12), aP (pPush (.int 1) 13), fRetI .int, aP (pStA 3 15), aP (pPush (.int 2) 16), fRetI .int, aP (pPush (.int 0) 18), fRetI .int]
def cd_375 : List lI := cd_375_0
/-! TowerHouseLaw.station(LTowerHouse;II[J)I -/
def cd_376_0 : List lI := [aP (pLoadA 3 1), aP (pPush (.int 0) 2), aP (pLoadA 0 3), aP (pLoadI 1 4), aP (pLoadI 2 5), fCallV (hdIf 11 (some (some 9)) (hdIf 12 (some (some 12)) (hdIf 33 (some none) (hdIf 69 (some none) (hdIf 75 (some none) (hdIf 88 (some none) (hdIf 133 (some none) hdNil))))))) 2 [(45, 459)] 6, aP (pI2L 7), aM (fLst 1 8), aP (pGoto 15), aP (pStA 4 10), aP (pPush (.int 1) 11), fRetI .int, aP (pStA 4 13), aP (pPush (.int 2) 14), fRetI .int, aP (pPush (.int 0) 16), fRetI .int]
def cd_376 : List lI := cd_376_0
/-! TowerHouseLaw.heard(LTowerHouse;I[J)I -/
def cd_377_0 : List lI := [aP (pLoadA 2 1), aP (pPush (.int 0) 2), aP (pLoadA 0 3), aP (pLoadI 1 4), fCallV (hdIf 11 (some (some 8)) (hdIf 12 (some (some 11)) (hdIf 33 (some none) (hdIf 69 (some none) (hdIf 75 (some none) (hdIf 88 (some none) (hdIf 133 (some none) hdNil))))))) 1 [(45, 460)] 5, aP (pI2L 6), aM (fLst 1 7), aP (pGoto 14), aP (pStA 3 9), aP (pPush (.int 1) 10), fRetI .int, aP (pStA 3 12), aP (pPush (.int 2) 13), fRetI .int, aP (pPush (.int 0) 15), fRetI .int]
def cd_377 : List lI := cd_377_0
/-! TowerHouseLaw.byteAt(LTowerHouse;I[J)I -/
def cd_378_0 : List lI := [aP (pLoadA 2 1), aP (pPush (.int 0) 2), aP (pLoadA 0 3), aP (pLoadI 1 4), fCallV (hdIf 11 (some (some 8)) (hdIf 12 (some (some 11)) (hdIf 33 (some none) (hdIf 69 (some none) (hdIf 75 (some none) (hdIf 88 (some none) (hdIf 133 (some none) hdNil))))))) 1 [(45, 461)] 5, aP (pI2L 6), aM (fLst 1 7), aP (pGoto 14), aP (pStA 3 9), aP (pPush (.int 1) 10), fRetI .int, aP (pStA 3 12), aP (pPush (.int 2) 13), fRetI .int, aP (pPush (.int 0) 15), fRetI .int]
def cd_378 : List lI := cd_378_0
/-! TowerHouseLaw.car(LTowerHouse;II[J)I -/
def cd_379_0 : List lI := [aP (pLoadA 3 1), aP (pPush (.int 0) 2), aP (pLoadA 0 3), aP (pLoadI 1 4), aP (pLoadI 2 5), fCallV (hdIf 11 (some (some 9)) (hdIf 12 (some (some 12)) (hdIf 33 (some none) (hdIf 69 (some none) (hdIf 75 (some none) (hdIf 88 (some none) (hdIf 133 (some none) hdNil))))))) 2 [(45, 462)] 6, aP (pI2L 7), aM (fLst 1 8), aP (pGoto 15), aP (pStA 4 10), aP (pPush (.int 1) 11), fRetI .int, aP (pStA 4 13), aP (pPush (.int 2) 14), fRetI .int, aP (pPush (.int 0) 16), fRetI .int]
def cd_379 : List lI := cd_379_0
/-! TowerHouseLaw.free(LTowerHouse;III)I -/
def cd_380_0 : List lI := [aP (pLoadA 0 1), aP (pLoadI 1 2), aP (pLoadI 2 3), aP (pLoadI 3 4), fCallV (hdIf 11 (some (some 6)) (hdIf 12 (some (some 9)) (hdIf 33 (some none) (hdIf 69 (some none) (hdIf 75 (some none) (hdIf 88 (some none) (hdIf 133 (some none) hdNil))))))) 3 [(45, 463)] 5, aP (pGoto 12), aP (pStA 4 7), aP (pPush (.int 1) 8), fRetI .int, aP (pStA 4 10), aP (pPush (.int 2) 11), fRetI .int, aP (pPush (.int 0) 13), fRetI .int]
def cd_380 : List lI := cd_380_0
/-! TowerHouseLaw.span(LTowerHouse;III)I -/
def cd_381_0 : List lI := [aP (pLoadA 0 1), aP (pLoadI 1 2), aP (pLoadI 2 3), aP (pLoadI 3 4), fCallV (hdIf 11 (some (some 6)) (hdIf 12 (some (some 9)) (hdIf 33 (some none) (hdIf 69 (some none) (hdIf 75 (some none) (hdIf 88 (some none) (hdIf 133 (some none) hdNil))))))) 3 [(45, 464)] 5, aP (pGoto 12), aP (pStA 4 7), aP (pPush (.int 1) 8), fRetI .int, aP (pStA 4 10), aP (pPush (.int 2) 11), fRetI .int, aP (pPush (.int 0) 13), fRetI .int]
def cd_381 : List lI := cd_381_0
/-! TowerHouseLaw.call(LTowerHouse;II[J)I -/
def cd_382_0 : List lI := [aP (pLoadA 3 1), aP (pPush (.int 0) 2), aP (pLoadA 0 3), aP (pLoadI 1 4), aP (pLoadI 2 5), fCallV (hdIf 11 (some (some 9)) (hdIf 12 (some (some 12)) (hdIf 33 (some none) (hdIf 69 (some none) (hdIf 75 (some none) (hdIf 88 (some none) (hdIf 133 (some none) hdNil))))))) 2 [(45, 465)] 6, aP (pI2L 7), aM (fLst 1 8), aP (pGoto 15), aP (pStA 4 10), aP (pPush (.int 1) 11), fRetI .int, aP (pStA 4 13), aP (pPush (.int 2) 14), fRetI .int, aP (pPush (.int 0) 16), fRetI .int]
def cd_382 : List lI := cd_382_0
/-! TowerHouseLaw.begin(LTowerHouse;II[J)I -/
def cd_383_0 : List lI := [aP (pLoadA 3 1), aP (pPush (.int 0) 2), aP (pLoadA 0 3), aP (pLoadI 1 4), aP (pLoadI 2 5), fCallV (hdIf 11 (some (some 12)) (hdIf 12 (some (some 15)) (hdIf 33 (some none) (hdIf 69 (some none) (hdIf 75 (some none) (hdIf 88 (some none) (hdIf 133 (some none) hdNil))))))) 2 [(45, 466)] 6, aP (pIf fz_eq 9 7), aP (pPush (.long 1) 8), aP (pGoto 10), aP (pPush (.long 0) 10), aM (fLst 1 11), aP (pGoto 18), aP (pStA 4 13), aP (pPush (.int 1) 14), fRetI .int, aP (pStA 4 16), aP (pPush (.int 2) 17), fRetI .int, aP (pPush (.int 0) 19), fRetI .int]
def cd_383 : List lI := cd_383_0
/-! TowerHouseLaw.done(LTowerHouse;I)I -/
def cd_384_0 : List lI := [aP (pLoadA 0 1), aP (pLoadI 1 2), fCallV (hdIf 11 (some (some 4)) (hdIf 12 (some (some 7)) (hdIf 33 (some none) (hdIf 69 (some none) (hdIf 75 (some none) (hdIf 88 (some none) (hdIf 133 (some none) hdNil))))))) 1 [(45, 467)] 3, aP (pGoto 10), aP (pStA 2 5), aP (pPush (.int 1) 6), fRetI .int, aP (pStA 2 8), aP (pPush (.int 2) 9), fRetI .int, aP (pPush (.int 0) 11), fRetI .int]
def cd_384 : List lI := cd_384_0
/-! TowerHouseLaw.give(LTowerHouse;[J)I -/
def cd_385_0 : List lI := [aP (pLoadA 1 1), aP (pPush (.int 0) 2), aP (pLoadA 0 3), fCallV (hdIf 11 (some none) (hdIf 12 (some (some 6)) (hdIf 33 (some none) (hdIf 69 (some none) (hdIf 75 (some none) (hdIf 88 (some none) (hdIf 133 (some none) hdNil))))))) 0 [(45, 468)] 4, aM (fLst 1 5), aP (pGoto 9), aP (pStA 2 7), aP (pPush (.int 1) 8), fRetI .int, aP (pPush (.int 0) 10), fRetI .int]
def cd_385 : List lI := cd_385_0
/-! TowerHouseLaw.given(LTowerHouse;II[J)I -/
def cd_386_0 : List lI := [aP (pLoadA 3 1), aP (pPush (.int 0) 2), aP (pLoadA 0 3), aP (pLoadI 1 4), aP (pLoadI 2 5), fCallV (hdIf 11 (some (some 9)) (hdIf 12 (some (some 12)) (hdIf 33 (some none) (hdIf 69 (some none) (hdIf 75 (some none) (hdIf 88 (some none) (hdIf 133 (some none) hdNil))))))) 2 [(45, 469)] 6, aP (pI2L 7), aM (fLst 1 8), aP (pGoto 15), aP (pStA 4 10), aP (pPush (.int 1) 11), fRetI .int, aP (pStA 4 13), aP (pPush (.int 2) 14), fRetI .int, aP (pPush (.int 0) 16), fRetI .int]
def cd_386 : List lI := cd_386_0
/-! TowerHouseLaw.fire(LTowerHouse;II[J)I -/
def cd_387_0 : List lI := [aP (pLoadA 3 1), aP (pPush (.int 0) 2), aP (pLoadA 0 3), aP (pLoadI 1 4), aP (pLoadI 2 5), fCallV (hdIf 11 (some (some 12)) (hdIf 12 (some (some 15)) (hdIf 33 (some none) (hdIf 69 (some none) (hdIf 75 (some none) (hdIf 88 (some none) (hdIf 133 (some none) hdNil))))))) 2 [(45, 470)] 6, aP (pIf fz_eq 9 7), aP (pPush (.long 1) 8), aP (pGoto 10), aP (pPush (.long 0) 10), aM (fLst 1 11), aP (pGoto 18), aP (pStA 4 13), aP (pPush (.int 1) 14), fRetI .int, aP (pStA 4 16), aP (pPush (.int 2) 17), fRetI .int, aP (pPush (.int 0) 19), fRetI .int]
def cd_387 : List lI := cd_387_0
/-! TowerHouseLaw.cell(LTowerHouse;III[J)I -/
def cd_388_0 : List lI := [aP (pLoadA 4 1), aP (pPush (.int 0) 2), aP (pLoadA 0 3), aP (pLoadI 1 4), aP (pLoadI 2 5), aP (pLoadI 3 6), fCallV (hdIf 11 (some (some 10)) (hdIf 12 (some (some 13)) (hdIf 33 (some none) (hdIf 69 (some none) (hdIf 75 (some none) (hdIf 88 (some none) (hdIf 133 (some none) hdNil))))))) 3 [(45, 471)] 7, aP (pI2L 8), aM (fLst 1 9), aP (pGoto 16), aP (pStA 5 11), aP (pPush (.int 1) 12), fRetI .int, aP (pStA 5 14), aP (pPush (.int 2) 15), fRetI .int, aP (pPush (.int 0) 17), fRetI .int]
def cd_388 : List lI := cd_388_0
/-! TowerHouseLaw.pass(LTowerHouse;I[J)I -/
def cd_389_0 : List lI := [aP (pLoadA 2 1), aP (pPush (.int 0) 2), aP (pLoadA 0 3), aP (pLoadI 1 4), fCallV (hdIf 11 (some (some 8)) (hdIf 12 (some (some 11)) (hdIf 33 (some none) (hdIf 69 (some none) (hdIf 75 (some none) (hdIf 88 (some none) (hdIf 133 (some none) hdNil))))))) 1 [(45, 472)] 5, aP (pI2L 6), aM (fLst 1 7), aP (pGoto 14), aP (pStA 3 9), aP (pPush (.int 1) 10), fRetI .int, aP (pStA 3 12), aP (pPush (.int 2) 13), fRetI .int, aP (pPush (.int 0) 15), fRetI .int]
def cd_389 : List lI := cd_389_0
/-! TowerHouseLaw.told(LTowerHouse;I[J)I -/
def cd_390_0 : List lI := [aP (pLoadA 2 1), aP (pPush (.int 0) 2), aP (pLoadA 0 3), aP (pLoadI 1 4), fCallV (hdIf 11 (some (some 8)) (hdIf 12 (some (some 11)) (hdIf 33 (some none) (hdIf 69 (some none) (hdIf 75 (some none) (hdIf 88 (some none) (hdIf 133 (some none) hdNil))))))) 1 [(45, 474)] 5, aP (pI2L 6), aM (fLst 1 7), aP (pGoto 14), aP (pStA 3 9), aP (pPush (.int 1) 10), fRetI .int, aP (pStA 3 12), aP (pPush (.int 2) 13), fRetI .int, aP (pPush (.int 0) 15), fRetI .int]
def cd_390 : List lI := cd_390_0
/-! TowerHouse.<init>()V -/
def cd_391_0 : List lI := [aP (pLoadA 0 1), fObj 2, aP (pLoadA 0 3), aM (fNew 56 [.int 0] 4), aP (pDup 5), fCallV hdOut 0 [(56, 822)] 6, aM (fPut [(45, 0)] (.object "TowerHouse$Hours") 7), aP (pLoadA 0 8), aM (fNew 67 [.null, .null, .null, .null, .int 0, .int 0, .int 0] 9), aP (pDup 10), fCallV hdOut 0 [(67, 889)] 11, aM (fPut [(45, 1)] (.object "TowerHouse$Plan") 12), aP (pLoadA 0 13), aM (fNew 78 [.null, .null, .null, .int 0] 14), aP (pDup 15), fCallV hdOut 0 [(78, 969)] 16, aM (fPut [(45, 2)] (.object "TowerHouse$Permits") 17), aP (pLoadA 0 18), aM (fNew 89 [.null, .int 0, .null, .null, .null, .null, .null, .null, .int 0, .int 0, .int 0] 19), aP (pDup 20), aP (pLoadA 0 21), aM (fGet [(45, 0)] 22), fCallV hdOut 1 [(89, 1020)] 23, aM (fPut [(45, 3)] (.object "TowerHouse$Gate") 24), aP (pLoadA 0 25), aM (fNew 100 [.null, .null, .null, .int 0, .null, .null, .int 0, .int 0] 26), aP (pDup 27), fCallV hdOut 0 [(100, 1085)] 28, aM (fPut [(45, 4)] (.object "TowerHouse$Program") 29), aP (pLoadA 0 30), aM (fNew 122 [.null, .null, .null, .null, .null, .int 0, .int 0, .int 0, .int 0, .int 0, .int 0, .null, .int 0] 31), aP (pDup 32), aP (pLoadA 0 33), aM (fGet [(45, 4)] 34), fCallV hdOut 1 [(122, 1132)] 35, aM (fPut [(45, 5)] (.object "TowerHouse$Bus") 36), aP (pLoadA 0 37), aM (fNew 47 [.null, .null, .null, .null, .null, .null, .int 0, .null, .int 0, .int 0, .null, .null] 38), aP (pDup 39), aP (pLoadA 0 40)]
def cd_391_1 : List lI := [aM (fGet [(45, 4)] 41), aP (pLoadA 0 42), aM (fGet [(45, 5)] 43), fCallV hdOut 2 [(47, 483)] 44, aM (fPut [(45, 6)] (.object "TowerHouse$Warden") 45), aP (pLoadA 0 46), aM (fNew 49 [.null, .null, .int 0, .int 0, .int 0, .int 0, .null, .null, .null, .null, .long 0, .null] 47), aP (pDup 48), fCallV hdOut 0 [(49, 519)] 49, aM (fPut [(45, 7)] (.object "TowerHouse$Lifts") 50), aP (pLoadA 0 51), aM (fNew 50 [.null, .int 0, .null, .null, .null, .null, .null, .null, .null, .null] 52), aP (pDup 53), aP (pLoadA 0 54), aM (fGet [(45, 0)] 55), fCallV hdOut 1 [(50, 538)] 56, aM (fPut [(45, 8)] (.object "TowerHouse$Cells") 57), fRetV]
def cd_391 : List lI := cd_391_0 ++ (cd_391_1)
/-! TowerHouse.rules()I -/
def cd_392_0 : List lI := [aP (pLoadA 0 1), aM (fGet [(45, 2)] 2), fCallV hdOut 0 [(78, 970)] 3, fRetI .int]
def cd_392 : List lI := cd_392_0
/-! TowerHouse.line(IIII)I -/
def cd_393_0 : List lI := [aP (pLoadA 0 1), aM (fGet [(45, 1)] 2), aP (pLoadI 1 3), aP (pLoadI 2 4), aP (pLoadI 3 5), aP (pLoadI 4 6), fCallV hdOut 4 [(67, 890)] 7, fRetI .int]
def cd_393 : List lI := cd_393_0
/-! TowerHouse.need(Z)V -/
def cd_394_0 : List lI := [aP (pLoadI 0 1), aP (pIf fz_ne 6 2), aM (fNew 11 [.null, .null, .null, .null, .null, .int 0] 3), aP (pDup 4), fCallV hdOut 0 [(11, 73)] 5, fThrow hdOut, fRetV]
def cd_394 : List lI := cd_394_0
/-! TowerHouse.may(Z)V -/
def cd_395_0 : List lI := [aP (pLoadI 0 1), aP (pIf fz_ne 6 2), aM (fNew 12 [.null, .null, .null, .null, .null, .int 0] 3), aP (pDup 4), fCallV hdOut 0 [(12, 74)] 5, fThrow hdOut, fRetV]
def cd_395 : List lI := cd_395_0
/-! TowerHouse.move(III)Z -/
def cd_396_0 : List lI := [aP (pLoadA 0 1), aM (fGet [(45, 1)] 2), aP (pLoadI 1 3), aP (pLoadI 2 4), aP (pLoadI 3 5), fCallV hdOut 3 [(67, 893)] 6, fRetI .boolean]
def cd_396 : List lI := cd_396_0
/-! TowerHouse.door(IIII)I -/
def cd_397_0 : List lI := [aP (pLoadA 0 1), aM (fGet [(45, 1)] 2), aP (pLoadI 1 3), aP (pLoadI 2 4), aP (pLoadI 3 5), aP (pLoadI 4 6), fCallV hdOut 4 [(67, 895)] 7, fRetI .int]
def cd_397 : List lI := cd_397_0
/-! TowerHouse.find()I -/
def cd_398_0 : List lI := [aP (pLoadA 0 1), aM (fGet [(45, 1)] 2), fCallV hdOut 0 [(67, 896)] 3, fRetI .int]
def cd_398 : List lI := cd_398_0
/-! TowerHouse.count(I)I -/
def cd_399_0 : List lI := [aP (pLoadA 0 1), aM (fGet [(45, 1)] 2), aP (pLoadI 1 3), fCallV hdOut 1 [(67, 903)] 4, fRetI .int]
def cd_399 : List lI := cd_399_0
/-! TowerHouse.sides(II)I -/
def cd_400_0 : List lI := [aP (pLoadA 0 1), aM (fGet [(45, 1)] 2), aP (pLoadI 1 3), aP (pLoadI 2 4), fCallV hdOut 2 [(67, 904)] 5, fRetI .int]
def cd_400 : List lI := cd_400_0
/-! TowerHouse.side(IIII)I -/
def cd_401_0 : List lI := [aP (pLoadA 0 1), aM (fGet [(45, 1)] 2), aP (pLoadI 1 3), aP (pLoadI 2 4), aP (pLoadI 3 5), aP (pLoadI 4 6), fCallV hdOut 4 [(67, 906)] 7, fRetI .int]
def cd_401 : List lI := cd_401_0
/-! TowerHouse.size(II)I -/
def cd_402_0 : List lI := [aP (pLoadA 0 1), aM (fGet [(45, 1)] 2), aP (pLoadI 1 3), aP (pLoadI 2 4), fCallV hdOut 2 [(67, 908)] 5, fRetI .int]
def cd_402 : List lI := cd_402_0
/-! TowerHouse.at(II)I -/
def cd_403_0 : List lI := [aP (pLoadA 0 1), aM (fGet [(45, 1)] 2), aP (pLoadI 1 3), aP (pLoadI 2 4), fCallV hdOut 2 [(67, 909)] 5, fRetI .int]
def cd_403 : List lI := cd_403_0
/-! TowerHouse.between(II)I -/
def cd_404_0 : List lI := [aP (pLoadA 0 1), aM (fGet [(45, 1)] 2), aP (pLoadI 1 3), aP (pLoadI 2 4), fCallV hdOut 2 [(67, 911)] 5, fRetI .int]
def cd_404 : List lI := cd_404_0
/-! TowerHouse.way(II)I -/
def cd_405_0 : List lI := [aP (pLoadA 0 1), aM (fGet [(45, 1)] 2), aP (pLoadI 1 3), aP (pLoadI 2 4), fCallV hdOut 2 [(67, 914)] 5, fRetI .int]
def cd_405 : List lI := cd_405_0
/-! TowerHouse.name(II)I -/
def cd_406_0 : List lI := [aP (pLoadA 0 1), aM (fGet [(45, 1)] 2), aP (pLoadI 1 3), aP (pLoadI 2 4), fCallV hdOut 2 [(67, 917)] 5, fRetI .int]
def cd_406 : List lI := cd_406_0
/-! TowerHouse.nameOf(I)I -/
def cd_407_0 : List lI := [aP (pLoadA 0 1), aM (fGet [(45, 1)] 2), aP (pLoadI 1 3), fCallV hdOut 1 [(67, 918)] 4, fRetI .int]
def cd_407 : List lI := cd_407_0
/-! TowerHouse.say(J)I -/
def cd_408_0 : List lI := [aP (pLoadA 0 1), aM (fGet [(45, 2)] 2), aP (pLoadL 1 3), fCallV hdOut 1 [(78, 971)] 4, fRetI .int]
def cd_408 : List lI := cd_408_0
/-! TowerHouse.trim(I)I -/
def cd_409_0 : List lI := [aP (pLoadA 0 1), aM (fGet [(45, 2)] 2), aP (pLoadI 1 3), fCallV hdOut 1 [(78, 972)] 4, fRetI .int]
def cd_409 : List lI := cd_409_0
/-! TowerHouse.fact(JI)J -/
def cd_410_0 : List lI := [aP (pLoadA 0 1), aM (fGet [(45, 2)] 2), aP (pLoadL 1 3), aP (pLoadI 3 4), fCallV hdOut 2 [(78, 973)] 5, fRetL]
def cd_410 : List lI := cd_410_0
/-! TowerHouse.measure(IIJ)I -/
def cd_411_0 : List lI := [aP (pLoadA 0 1), aM (fGet [(45, 2)] 2), aP (pLoadL 3 3), fCallV hdOut 1 [(78, 976)] 4, aP (pStI 5 5), aP (pLoadA 0 6), aM (fGet [(45, 1)] 7), aP (pLoadI 1 8), aP (pLoadI 2 9), fCallV hdOut 2 [(67, 908)] 10, aP (pStI 6 11), aP (pLoadI 5 12), fCall hdOut 1 395 13, aP (pLoadA 0 14), aM (fGet [(45, 2)] 15), aP (pLoadL 3 16), aP (pLoadI 6 17), fCallV hdOut 2 [(78, 973)] 18, aP (pStL 7 19), aP (pLoadI 6 20), fRetI .int]
def cd_411 : List lI := cd_411_0
/-! TowerHouse.check(I)I -/
def cd_412_0 : List lI := [aP (pLoadA 0 1), aM (fGet [(45, 2)] 2), aP (pLoadI 1 3), fCallV hdOut 1 [(78, 977)] 4, fRetI .int]
def cd_412 : List lI := cd_412_0
/-! TowerHouse.rule(II)J -/
def cd_413_0 : List lI := [aP (pLoadA 0 1), aM (fGet [(45, 2)] 2), aP (pLoadI 1 3), aP (pLoadI 2 4), fCallV hdOut 2 [(78, 979)] 5, fRetL]
def cd_413 : List lI := cd_413_0
/-! TowerHouse.build(I)I -/
def cd_414_0 : List lI := [aP (pLoadI 1 1), aP (pIf fz_lt 7 2), aP (pLoadI 1 3), aP (pPush (.int 1000000) 4), aP (pCmp fc_gt 7 5), aP (pPush (.int 1) 6), aP (pGoto 8), aP (pPush (.int 0) 8), fCall hdOut 1 394 9, aP (pLoadA 0 10), aM (fGet [(45, 9)] 11), aP (pIf fz_ne 25 12), aP (pLoadA 0 13), aM (fGet [(45, 1)] 14), aP (pPush (.int 0) 15), fCallV hdOut 1 [(67, 903)] 16, aP (pPush (.int 1) 17), aP (pCmp fc_lt 25 18), aP (pLoadA 0 19), aM (fGet [(45, 1)] 20), fCallV hdOut 0 [(67, 919)] 21, aP (pPush (.int 40) 22), aP (pCmp fc_gt 25 23), aP (pPush (.int 1) 24), aP (pGoto 26), aP (pPush (.int 0) 26), fCall hdOut 1 395 27, aP (pLoadA 0 28), aM (fGet [(45, 2)] 29), aP (pLoadI 1 30), fCallV hdOut 1 [(78, 977)] 31, aP (pStI 2 32), aP (pLoadA 0 33), aM (fGet [(45, 2)] 34), fCallV hdOut 0 [(78, 982)] 35, aP (pStI 3 36), aP (pLoadI 3 37), aP (pPush (.int (-1)) 38), aP (pCmp fc_eq 43 39), aP (pPush (.int (-1)) 40)]
def cd_414_1 : List lI := [aP (pLoadI 3 41), aP (pBinI (· - ·) 42), fRetI .int, aP (pLoadA 0 44), aP (pPush (.int 1) 45), aM (fPut [(45, 9)] (.boolean) 46), aP (pLoadA 0 47), aM (fGet [(45, 1)] 48), aP (pPush (.int 1) 49), aM (fPut [(67, 6)] (.boolean) 50), aP (pLoadA 0 51), aM (fGet [(45, 4)] 52), aP (pPush (.int 1) 53), aM (fPut [(100, 7)] (.boolean) 54), aP (pLoadA 0 55), aM (fGet [(45, 5)] 56), aP (pPush (.int 1) 57), aM (fPut [(122, 12)] (.boolean) 58), aP (pLoadA 0 59), aM (fGet [(45, 7)] 60), aP (pPush (.int 1) 61), aM (fPut [(49, 5)] (.boolean) 62), aP (pLoadA 0 63), aM (fGet [(45, 8)] 64), aP (pLoadA 0 65), aM (fGet [(45, 1)] 66), fCallV hdOut 1 [(50, 539)] 67, aP (pLoadA 0 68), aM (fGet [(45, 6)] 69), aP (pLoadA 0 70), aM (fGet [(45, 1)] 71), fCallV hdOut 0 [(67, 919)] 72, aP (pPush (.int 10) 73), aP (pBinI (· + ·) 74), fCallV hdOut 1 [(47, 484)] 75, aP (pLoadA 0 76), aM (fGet [(45, 3)] 77), aP (pLoadA 0 78), aM (fGet [(45, 1)] 79), fCallV hdOut 1 [(89, 1021)] 80]
def cd_414_2 : List lI := [fRetI .int]
def cd_414 : List lI := cd_414_0 ++ (cd_414_1 ++ (cd_414_2))
/-! TowerHouse.portal(II)I -/
def cd_415_0 : List lI := [aP (pLoadA 0 1), aM (fGet [(45, 3)] 2), aP (pLoadI 1 3), aP (pLoadI 2 4), fCallV hdOut 2 [(89, 1022)] 5, fRetI .int]
def cd_415 : List lI := cd_415_0
/-! TowerHouse.person(II)I -/
def cd_416_0 : List lI := [aP (pLoadA 0 1), aM (fGet [(45, 3)] 2), aP (pLoadI 1 3), aP (pLoadI 2 4), fCallV hdOut 2 [(89, 1024)] 5, fRetI .int]
def cd_416 : List lI := cd_416_0
/-! TowerHouse.card(II)I -/
def cd_417_0 : List lI := [aP (pLoadA 0 1), aM (fGet [(45, 3)] 2), aP (pLoadI 1 3), aP (pLoadI 2 4), fCallV hdOut 2 [(89, 1026)] 5, fRetI .int]
def cd_417 : List lI := cd_417_0
/-! TowerHouse.right(IIIII)I -/
def cd_418_0 : List lI := [aP (pLoadA 0 1), aM (fGet [(45, 3)] 2), aP (pLoadI 1 3), aP (pLoadI 2 4), aP (pLoadI 3 5), aP (pLoadI 4 6), aP (pLoadI 5 7), fCallV hdOut 5 [(89, 1029)] 8, fRetI .int]
def cd_418 : List lI := cd_418_0
/-! TowerHouse.end(II)I -/
def cd_419_0 : List lI := [aP (pLoadA 0 1), aM (fGet [(45, 3)] 2), aP (pLoadI 1 3), aP (pLoadI 2 4), fCallV hdOut 2 [(89, 1031)] 5, fRetI .int]
def cd_419 : List lI := cd_419_0
/-! TowerHouse.lost(II)I -/
def cd_420_0 : List lI := [aP (pLoadA 0 1), aM (fGet [(45, 3)] 2), aP (pLoadI 1 3), aP (pLoadI 2 4), fCallV hdOut 2 [(89, 1032)] 5, fRetI .int]
def cd_420 : List lI := cd_420_0
/-! TowerHouse.two(IZ)Z -/
def cd_421_0 : List lI := [aP (pLoadA 0 1), aM (fGet [(45, 3)] 2), aP (pLoadI 1 3), aP (pLoadI 2 4), fCallV hdOut 2 [(89, 1034)] 5, fRetI .boolean]
def cd_421 : List lI := cd_421_0
/-! TowerHouse.airlock(IIZ)Z -/
def cd_422_0 : List lI := [aP (pLoadA 0 1), aM (fGet [(45, 3)] 2), aP (pLoadI 1 3), aP (pLoadI 2 4), aP (pLoadI 3 5), fCallV hdOut 3 [(89, 1035)] 6, fRetI .boolean]
def cd_422 : List lI := cd_422_0
/-! TowerHouse.stands(IZ)I -/
def cd_423_0 : List lI := [aP (pLoadA 0 1), aM (fGet [(45, 3)] 2), aP (pLoadI 1 3), aP (pLoadI 2 4), fCallV hdOut 2 [(89, 1036)] 5, fRetI .int]
def cd_423 : List lI := cd_423_0
/-! TowerHouse.off(IZ)I -/
def cd_424_0 : List lI := [aP (pLoadA 0 1), aM (fGet [(45, 3)] 2), aP (pLoadI 1 3), aP (pLoadI 2 4), fCallV hdOut 2 [(89, 1037)] 5, fRetI .int]
def cd_424 : List lI := cd_424_0
/-! TowerHouse.ask(III)I -/
def cd_425_0 : List lI := [aP (pLoadA 0 1), aM (fGet [(45, 3)] 2), aP (pLoadA 0 3), aM (fGet [(45, 6)] 4), aP (pPush (.int 0) 5), fCallV hdOut 1 [(47, 485)] 6, aP (pIf fz_le 9 7), aP (pPush (.int 1) 8), aP (pGoto 10), aP (pPush (.int 0) 10), aM (fPut [(89, 10)] (.boolean) 11), aP (pLoadA 0 12), aM (fGet [(45, 3)] 13), aP (pLoadI 1 14), aP (pLoadI 2 15), aP (pLoadI 3 16), fCallV hdOut 3 [(89, 1042)] 17, fRetI .int]
def cd_425 : List lI := cd_425_0
/-! TowerHouse.both(IIII)I -/
def cd_426_0 : List lI := [aP (pLoadA 0 1), aM (fGet [(45, 3)] 2), aP (pLoadA 0 3), aM (fGet [(45, 6)] 4), aP (pPush (.int 0) 5), fCallV hdOut 1 [(47, 485)] 6, aP (pIf fz_le 9 7), aP (pPush (.int 1) 8), aP (pGoto 10), aP (pPush (.int 0) 10), aM (fPut [(89, 10)] (.boolean) 11), aP (pLoadA 0 12), aM (fGet [(45, 3)] 13), aP (pLoadI 1 14), aP (pLoadI 2 15), aP (pLoadI 3 16), aP (pLoadI 4 17), fCallV hdOut 4 [(89, 1046)] 18, fRetI .int]
def cd_426 : List lI := cd_426_0
/-! TowerHouse.where(II)I -/
def cd_427_0 : List lI := [aP (pLoadA 0 1), aM (fGet [(45, 3)] 2), aP (pLoadI 1 3), aP (pLoadI 2 4), fCallV hdOut 2 [(89, 1047)] 5, fRetI .int]
def cd_427 : List lI := cd_427_0
/-! TowerHouse.inside(I)I -/
def cd_428_0 : List lI := [aP (pLoadA 0 1), aM (fGet [(45, 3)] 2), aP (pLoadI 1 3), fCallV hdOut 1 [(89, 1048)] 4, fRetI .int]
def cd_428 : List lI := cd_428_0
/-! TowerHouse.against(II)I -/
def cd_429_0 : List lI := [aP (pLoadA 0 1), aM (fGet [(45, 3)] 2), aP (pLoadI 1 3), aP (pLoadI 2 4), fCallV hdOut 2 [(89, 1049)] 5, fRetI .int]
def cd_429 : List lI := cd_429_0
/-! TowerHouse.unit(I)I -/
def cd_430_0 : List lI := [aP (pLoadA 0 1), aM (fGet [(45, 6)] 2), aP (pLoadI 1 3), fCallV hdOut 1 [(47, 486)] 4, fRetI .int]
def cd_430 : List lI := cd_430_0
/-! TowerHouse.sentence(IIIII)I -/
def cd_431_0 : List lI := [aP (pLoadA 0 1), aM (fGet [(45, 6)] 2), aP (pLoadI 1 3), aP (pLoadI 2 4), aP (pLoadI 3 5), aP (pLoadI 4 6), aP (pLoadI 5 7), fCallV hdOut 5 [(47, 487)] 8, fRetI .int]
def cd_431 : List lI := cd_431_0
/-! TowerHouse.cutText(I)I -/
def cd_432_0 : List lI := [aP (pLoadA 0 1), aM (fGet [(45, 6)] 2), aP (pLoadI 1 3), fCallV hdOut 1 [(47, 490)] 4, fRetI .int]
def cd_432 : List lI := cd_432_0
/-! TowerHouse.matrix()I -/
def cd_433_0 : List lI := [aP (pLoadA 0 1), aM (fGet [(45, 6)] 2), fCallV hdOut 0 [(47, 491)] 3, fRetI .int]
def cd_433 : List lI := cd_433_0
/-! TowerHouse.signal(II)I -/
def cd_434_0 : List lI := [aP (pLoadA 0 1), aM (fGet [(45, 6)] 2), aP (pLoadI 1 3), aP (pLoadI 2 4), fCallV hdOut 2 [(47, 498)] 5, fRetI .int]
def cd_434 : List lI := cd_434_0
/-! TowerHouse.fault(IZ)Z -/
def cd_435_0 : List lI := [aP (pLoadA 0 1), aM (fGet [(45, 6)] 2), aP (pLoadI 1 3), aP (pLoadI 2 4), fCallV hdOut 2 [(47, 500)] 5, fRetI .boolean]
def cd_435 : List lI := cd_435_0
/-! TowerHouse.disable(II)I -/
def cd_436_0 : List lI := [aP (pLoadA 0 1), aM (fGet [(45, 6)] 2), aP (pLoadI 1 3), aP (pLoadI 2 4), fCallV hdOut 2 [(47, 501)] 5, fRetI .int]
def cd_436 : List lI := cd_436_0
/-! TowerHouse.attend(I)I -/
def cd_437_0 : List lI := [aP (pLoadA 0 1), aM (fGet [(45, 6)] 2), aP (pLoadI 1 3), fCallV hdOut 1 [(47, 502)] 4, fRetI .int]
def cd_437 : List lI := cd_437_0
/-! TowerHouse.reset()I -/
def cd_438_0 : List lI := [aP (pLoadA 0 1), aM (fGet [(45, 6)] 2), fCallV hdOut 0 [(47, 503)] 3, fRetI .int]
def cd_438 : List lI := cd_438_0
/-! TowerHouse.act(II)I -/
def cd_439_0 : List lI := [aP (pLoadA 0 1), aM (fGet [(45, 6)] 2), aP (pLoadI 1 3), aP (pLoadI 2 4), fCallV hdOut 2 [(47, 511)] 5, fRetI .int]
def cd_439 : List lI := cd_439_0
/-! TowerHouse.zone(II)I -/
def cd_440_0 : List lI := [aP (pLoadA 0 1), aM (fGet [(45, 6)] 2), aP (pLoadI 1 3), aP (pLoadI 2 4), fCallV hdOut 2 [(47, 512)] 5, fRetI .int]
def cd_440 : List lI := cd_440_0
/-! TowerHouse.event(II)I -/
def cd_441_0 : List lI := [aP (pLoadA 0 1), aM (fGet [(45, 6)] 2), aP (pLoadI 1 3), aP (pLoadI 2 4), fCallV hdOut 2 [(47, 513)] 5, fRetI .int]
def cd_441 : List lI := cd_441_0
/-! TowerHouse.block(I)I -/
def cd_442_0 : List lI := [aP (pLoadA 0 1), aM (fGet [(45, 4)] 2), aP (pLoadI 1 3), fCallV hdOut 1 [(100, 1086)] 4, fRetI .int]
def cd_442 : List lI := cd_442_0
/-! TowerHouse.wire(III)I -/
def cd_443_0 : List lI := [aP (pLoadA 0 1), aM (fGet [(45, 4)] 2), aP (pLoadI 1 3), aP (pLoadI 2 4), aP (pLoadI 3 5), fCallV hdOut 3 [(100, 1088)] 6, fRetI .int]
def cd_443 : List lI := cd_443_0
/-! TowerHouse.numbers(III)V -/
def cd_444_0 : List lI := [aP (pLoadA 0 1), aM (fGet [(45, 4)] 2), aP (pLoadI 1 3), aP (pLoadI 2 4), aP (pLoadI 3 5), fCallV hdOut 3 [(100, 1090)] 6, fRetV]
def cd_444 : List lI := cd_444_0
/-! TowerHouse.row(III)I -/
def cd_445_0 : List lI := [aP (pLoadA 0 1), aM (fGet [(45, 4)] 2), aP (pLoadI 1 3), aP (pLoadI 2 4), aP (pLoadI 3 5), fCallV hdOut 3 [(100, 1091)] 6, fRetI .int]
def cd_445 : List lI := cd_445_0
/-! TowerHouse.safe(II)I -/
def cd_446_0 : List lI := [aP (pLoadA 0 1), aM (fGet [(45, 4)] 2), aP (pLoadI 1 3), aP (pLoadI 2 4), fCallV hdOut 2 [(100, 1092)] 5, fRetI .int]
def cd_446 : List lI := cd_446_0
/-! TowerHouse.hand(IZI)Z -/
def cd_447_0 : List lI := [aP (pLoadA 0 1), aM (fGet [(45, 4)] 2), aP (pLoadI 1 3), aP (pLoadI 2 4), aP (pLoadI 3 5), fCallV hdOut 3 [(100, 1093)] 6, fRetI .boolean]
def cd_447 : List lI := cd_447_0
/-! TowerHouse.bind(II)I -/
def cd_448_0 : List lI := [aP (pLoadA 0 1), aM (fGet [(45, 4)] 2), aP (pLoadI 1 3), aP (pLoadI 2 4), fCallV hdOut 2 [(100, 1094)] 5, fRetI .int]
def cd_448 : List lI := cd_448_0
/-! TowerHouse.point(II)I -/
def cd_449_0 : List lI := [aP (pLoadA 0 1), aM (fGet [(45, 4)] 2), aP (pLoadI 1 3), aP (pLoadI 2 4), fCallV hdOut 2 [(100, 1095)] 5, fRetI .int]
def cd_449 : List lI := cd_449_0
/-! TowerHouse.pointAt(I)I -/
def cd_450_0 : List lI := [aP (pLoadA 0 1), aM (fGet [(45, 4)] 2), aP (pLoadI 1 3), fCallV hdOut 1 [(100, 1096)] 4, fRetI .int]
def cd_450 : List lI := cd_450_0
/-! TowerHouse.order()I -/
def cd_451_0 : List lI := [aP (pLoadA 0 1), aM (fGet [(45, 4)] 2), fCallV hdOut 0 [(100, 1097)] 3, fRetI .int]
def cd_451 : List lI := cd_451_0
/-! TowerHouse.out(II)I -/
def cd_452_0 : List lI := [aP (pLoadA 0 1), aM (fGet [(45, 4)] 2), aP (pLoadI 1 3), aP (pLoadI 2 4), fCallV hdOut 2 [(100, 1099)] 5, fRetI .int]
def cd_452 : List lI := cd_452_0
/-! TowerHouse.failed(I)I -/
def cd_453_0 : List lI := [aP (pLoadA 0 1), aM (fGet [(45, 4)] 2), aP (pLoadI 1 3), fCallV hdOut 1 [(100, 1101)] 4, fRetI .int]
def cd_453 : List lI := cd_453_0
/-! TowerHouse.address(II)I -/
def cd_454_0 : List lI := [aP (pLoadA 0 1), aM (fGet [(45, 5)] 2), aP (pLoadI 1 3), aP (pLoadI 2 4), fCallV hdOut 2 [(122, 1134)] 5, fRetI .int]
def cd_454 : List lI := cd_454_0
/-! TowerHouse.listen(IIZ)Z -/
def cd_455_0 : List lI := [aP (pLoadA 0 1), aM (fGet [(45, 5)] 2), aP (pLoadI 1 3), aP (pLoadI 2 4), aP (pLoadI 3 5), fCallV hdOut 3 [(122, 1136)] 6, fRetI .boolean]
def cd_455 : List lI := cd_455_0
/-! TowerHouse.busy(IZ)Z -/
def cd_456_0 : List lI := [aP (pLoadA 0 1), aM (fGet [(45, 5)] 2), aP (pLoadI 1 3), aP (pLoadI 2 4), fCallV hdOut 2 [(122, 1137)] 5, fRetI .boolean]
def cd_456 : List lI := cd_456_0
/-! TowerHouse.send(IIIZII)I -/
def cd_457_0 : List lI := [aP (pLoadA 0 1), aM (fGet [(45, 5)] 2), aP (pLoadI 1 3), aP (pLoadI 2 4), aP (pLoadI 3 5), aP (pLoadI 4 6), aP (pLoadI 5 7), aP (pLoadI 6 8), fCallV hdOut 6 [(122, 1138)] 9, fRetI .int]
def cd_457 : List lI := cd_457_0
/-! TowerHouse.disturb(I)Z -/
def cd_458_0 : List lI := [aP (pLoadA 0 1), aM (fGet [(45, 5)] 2), aP (pLoadI 1 3), fCallV hdOut 1 [(122, 1139)] 4, fRetI .boolean]
def cd_458 : List lI := cd_458_0
/-! TowerHouse.station(II)I -/
def cd_459_0 : List lI := [aP (pLoadA 0 1), aM (fGet [(45, 5)] 2), aP (pLoadI 1 3), aP (pLoadI 2 4), fCallV hdOut 2 [(122, 1140)] 5, fRetI .int]
def cd_459 : List lI := cd_459_0
/-! TowerHouse.heard(I)I -/
def cd_460_0 : List lI := [aP (pLoadA 0 1), aM (fGet [(45, 5)] 2), aP (pLoadI 1 3), fCallV hdOut 1 [(122, 1141)] 4, fRetI .int]
def cd_460 : List lI := cd_460_0
/-! TowerHouse.byteAt(I)I -/
def cd_461_0 : List lI := [aP (pLoadA 0 1), aM (fGet [(45, 5)] 2), aP (pLoadI 1 3), fCallV hdOut 1 [(122, 1142)] 4, fRetI .int]
def cd_461 : List lI := cd_461_0
/-! TowerHouse.car(II)I -/
def cd_462_0 : List lI := [aP (pLoadA 0 1), aM (fGet [(45, 7)] 2), aP (pLoadI 1 3), aP (pLoadI 2 4), fCallV hdOut 2 [(49, 520)] 5, fRetI .int]
def cd_462 : List lI := cd_462_0
/-! TowerHouse.free(III)V -/
def cd_463_0 : List lI := [aP (pLoadA 0 1), aM (fGet [(45, 7)] 2), aP (pLoadI 1 3), aP (pLoadI 2 4), aP (pLoadI 3 5), fCallV hdOut 3 [(49, 522)] 6, fRetV]
def cd_463 : List lI := cd_463_0
/-! TowerHouse.span(III)V -/
def cd_464_0 : List lI := [aP (pLoadA 0 1), aM (fGet [(45, 7)] 2), aP (pLoadI 1 3), aP (pLoadI 2 4), aP (pLoadI 3 5), fCallV hdOut 3 [(49, 524)] 6, fRetV]
def cd_464 : List lI := cd_464_0
/-! TowerHouse.call(II)I -/
def cd_465_0 : List lI := [aP (pLoadA 0 1), aM (fGet [(45, 7)] 2), aP (pLoadI 1 3), aP (pLoadI 2 4), aP (pLoadA 0 5), aM (fGet [(45, 0)] 6), aM (fGet [(56, 0)] 7), fCallV hdOut 3 [(49, 525)] 8, fRetI .int]
def cd_465 : List lI := cd_465_0
/-! TowerHouse.begin(II)Z -/
def cd_466_0 : List lI := [aP (pLoadA 0 1), aM (fGet [(45, 7)] 2), aP (pLoadI 1 3), aP (pLoadI 2 4), fCallV hdOut 2 [(49, 526)] 5, fRetI .boolean]
def cd_466 : List lI := cd_466_0
/-! TowerHouse.done(I)V -/
def cd_467_0 : List lI := [aP (pLoadA 0 1), aM (fGet [(45, 7)] 2), aP (pLoadI 1 3), fCallV hdOut 1 [(49, 529)] 4, fRetV]
def cd_467 : List lI := cd_467_0
/-! TowerHouse.give()J -/
def cd_468_0 : List lI := [aP (pLoadA 0 1), aM (fGet [(45, 7)] 2), aP (pLoadA 0 3), aM (fGet [(45, 6)] 4), aP (pPush (.int 1) 5), fCallV hdOut 1 [(47, 485)] 6, aP (pIf fz_le 9 7), aP (pPush (.int 1) 8), aP (pGoto 10), aP (pPush (.int 0) 10), aM (fPut [(49, 4)] (.boolean) 11), aP (pLoadA 0 12), aM (fGet [(45, 7)] 13), aP (pLoadA 0 14), aM (fGet [(45, 0)] 15), aM (fGet [(56, 0)] 16), fCallV hdOut 1 [(49, 530)] 17, fRetL]
def cd_468 : List lI := cd_468_0
/-! TowerHouse.given(II)I -/
def cd_469_0 : List lI := [aP (pLoadA 0 1), aM (fGet [(45, 7)] 2), aP (pLoadI 1 3), aP (pLoadI 2 4), fCallV hdOut 2 [(49, 535)] 5, fRetI .int]
def cd_469 : List lI := cd_469_0
/-! TowerHouse.fire(II)Z -/
def cd_470_0 : List lI := [aP (pLoadA 0 1), aM (fGet [(45, 8)] 2), aP (pLoadI 1 3), aP (pLoadI 2 4), fCallV hdOut 2 [(50, 545)] 5, fRetI .boolean]
def cd_470 : List lI := cd_470_0
/-! TowerHouse.cell(III)I -/
def cd_471_0 : List lI := [aP (pLoadA 0 1), aM (fGet [(45, 8)] 2), aP (pLoadI 1 3), aP (pLoadI 2 4), aP (pLoadI 3 5), aP (pLoadA 0 6), aM (fGet [(45, 3)] 7), aM (fGet [(89, 4)] 8), fCallV hdOut 4 [(50, 546)] 9, fRetI .int]
def cd_471 : List lI := cd_471_0
/-! TowerHouse.pass(I)I -/
def cd_472_0 : List lI := [aP (pLoadI 1 1), aP (pPush (.int 1) 2), aP (pCmp fc_lt 8 3), aP (pLoadI 1 4), aP (pPush (.int 60) 5), aP (pCmp fc_gt 8 6), aP (pPush (.int 1) 7), aP (pGoto 9), aP (pPush (.int 0) 9), fCall hdOut 1 394 10, aP (pLoadA 0 11), aM (fGet [(45, 9)] 12), aP (pIf fz_eq 22 13), aP (pLoadA 0 14), aM (fGet [(45, 0)] 15), aM (fGet [(56, 0)] 16), aP (pLoadI 1 17), aP (pBinI (· + ·) 18), aP (pPush (.int 6000) 19), aP (pCmp fc_gt 22 20), aP (pPush (.int 1) 21), aP (pGoto 23), aP (pPush (.int 0) 23), fCall hdOut 1 395 24, aP (pPush (.int 0) 25), aP (pStI 2 26), aP (pLoadI 2 27), aP (pLoadI 1 28), aP (pCmp fc_ge 33 29), aP (pLoadA 0 30), fCallV hdOut 0 [(45, 473)] 31, aP (pInc 2 1 32), aP (pGoto 26), aP (pLoadA 0 34), aM (fGet [(45, 0)] 35), aM (fGet [(56, 0)] 36), fRetI .int]
def cd_472 : List lI := cd_472_0
/-! TowerHouse.second()V -/
def cd_473_0 : List lI := [aP (pLoadA 0 1), aM (fGet [(45, 0)] 2), aP (pDup 3), aM (fGet [(56, 0)] 4), aP (pPush (.int 1) 5), aP (pBinI (· + ·) 6), aM (fPut [(56, 0)] (.int) 7), aP (pLoadA 0 8), aM (fGet [(45, 8)] 9), fCallV hdOut 0 [(50, 547)] 10, aP (pPush (.int 0) 11), aP (pStI 1 12), aP (pLoadI 1 13), aP (pLoadA 0 14), aM (fGet [(45, 3)] 15), fCallV hdOut 0 [(89, 1050)] 16, aP (pCmp fc_ge 31 17), aP (pLoadA 0 18), aM (fGet [(45, 6)] 19), aP (pLoadI 1 20), aP (pPush (.int 100) 21), aP (pPush (.int 10) 22), aP (pLoadA 0 23), aM (fGet [(45, 8)] 24), aP (pLoadI 1 25), fCallV hdOut 1 [(50, 548)] 26, aP (pBinI (· * ·) 27), fCall hdOut 2 48 28, fCallV hdOut 2 [(47, 514)] 29, aP (pInc 1 1 30), aP (pGoto 12), aP (pPush (.int 0) 32), aP (pStI 1 33), aP (pLoadI 1 34), aP (pPush (.int 10) 35), aP (pCmp fc_ge 55 36), aP (pLoadA 0 37), aM (fGet [(45, 4)] 38), aP (pLoadI 1 39), fCallV hdOut 1 [(100, 1102)] 40]
def cd_473_1 : List lI := [aP (pStI 2 41), aP (pLoadI 2 42), aP (pPush (.int (-2)) 43), aP (pCmp fc_eq 53 44), aP (pLoadA 0 45), aM (fGet [(45, 6)] 46), aP (pLoadA 0 47), aM (fGet [(45, 3)] 48), fCallV hdOut 0 [(89, 1050)] 49, aP (pLoadI 1 50), aP (pBinI (· + ·) 51), aP (pLoadI 2 52), fCallV hdOut 2 [(47, 514)] 53, aP (pInc 1 1 54), aP (pGoto 33), aP (pLoadA 0 56), aM (fGet [(45, 6)] 57), aP (pLoadA 0 58), aM (fGet [(45, 0)] 59), aM (fGet [(56, 0)] 60), fCallV hdOut 1 [(47, 515)] 61, aP (pLoadA 0 62), aM (fGet [(45, 4)] 63), aM (fGet [(100, 4)] 64), aP (pPush (.int 0) 65), aP (pLoadA 0 66), aM (fGet [(45, 3)] 67), fCallV hdOut 0 [(89, 1051)] 68, aM (fAst 0 id 69), aP (pLoadA 0 70), aM (fGet [(45, 4)] 71), aM (fGet [(100, 4)] 72), aP (pPush (.int 1) 73), aP (pLoadA 0 74), aM (fGet [(45, 6)] 75), aP (pPush (.int (-1)) 76), fCallV hdOut 1 [(47, 485)] 77, aM (fAst 0 id 78), aP (pLoadA 0 79), aM (fGet [(45, 4)] 80)]
def cd_473_2 : List lI := [aM (fGet [(100, 4)] 81), aP (pPush (.int 2) 82), aP (pLoadA 0 83), aM (fGet [(45, 8)] 84), fCallV hdOut 0 [(50, 549)] 85, aM (fAst 0 id 86), aP (pLoadA 0 87), aM (fGet [(45, 4)] 88), aM (fGet [(100, 4)] 89), aP (pPush (.int 3) 90), aP (pLoadA 0 91), aM (fGet [(45, 7)] 92), fCallV hdOut 0 [(49, 537)] 93, aM (fAst 0 id 94), aP (pLoadA 0 95), aM (fGet [(45, 4)] 96), aP (pLoadA 0 97), aM (fGet [(45, 0)] 98), fCallV hdOut 0 [(56, 823)] 99, fCallV hdOut 1 [(100, 1103)] 100, aP (pLoadA 0 101), aM (fGet [(45, 5)] 102), fCallV hdOut 0 [(122, 1143)] 103, aP (pLoadA 0 104), aM (fGet [(45, 8)] 105), aP (pLoadA 0 106), aM (fGet [(45, 3)] 107), aM (fGet [(89, 4)] 108), fCallV hdOut 1 [(50, 550)] 109, aP (pLoadA 0 110), aM (fGet [(45, 6)] 111), aP (pPush (.int 4) 112), fCallV hdOut 1 [(47, 485)] 113, aP (pIf fz_le 123 114), aP (pLoadA 0 115), aM (fGet [(45, 8)] 116), aP (pLoadA 0 117), aM (fGet [(45, 3)] 118), aM (fGet [(89, 4)] 119), aP (pLoadA 0 120)]
def cd_473_3 : List lI := [aM (fGet [(45, 3)] 121), fCallV hdOut 0 [(89, 1050)] 122, fCallV hdOut 2 [(50, 551)] 123, fRetV]
def cd_473 : List lI := cd_473_0 ++ (cd_473_1 ++ (cd_473_2 ++ (cd_473_3)))
/-! TowerHouse.told(I)I -/
def cd_474_0 : List lI := [aP (pLoadI 1 1), aP (pIf fz_lt 7 2), aP (pLoadI 1 3), aP (pPush (.int 8) 4), aP (pCmp fc_gt 7 5), aP (pPush (.int 1) 6), aP (pGoto 8), aP (pPush (.int 0) 8), fCall hdOut 1 394 9, aP (pLoadA 0 10), aM (fGet [(45, 9)] 11), fCall hdOut 1 395 12, aP (pLoadI 1 13), aP (pSw (swT 0 [14, 18, 22, 27, 31, 35, 39, 43] 47)), aP (pLoadA 0 15), aM (fGet [(45, 3)] 16), fCallV hdOut 0 [(89, 1052)] 17, fRetI .int, aP (pLoadA 0 19), aM (fGet [(45, 3)] 20), fCallV hdOut 0 [(89, 1051)] 21, fRetI .int, aP (pLoadA 0 23), aM (fGet [(45, 6)] 24), aP (pPush (.int (-1)) 25), fCallV hdOut 1 [(47, 485)] 26, fRetI .int, aP (pLoadA 0 28), aM (fGet [(45, 8)] 29), fCallV hdOut 0 [(50, 549)] 30, fRetI .int, aP (pLoadA 0 32), aM (fGet [(45, 7)] 33), fCallV hdOut 0 [(49, 537)] 34, fRetI .int, aP (pLoadA 0 36), aP (pPush (.int 0) 37), fCallV hdOut 1 [(45, 475)] 38, fRetI .int, aP (pLoadA 0 40)]
def cd_474_1 : List lI := [aP (pPush (.int 1) 41), fCallV hdOut 1 [(45, 475)] 42, fRetI .int, aP (pLoadA 0 44), aP (pPush (.int 4) 45), fCallV hdOut 1 [(45, 475)] 46, fRetI .int, aP (pLoadA 0 48), aM (fGet [(45, 0)] 49), aM (fGet [(56, 0)] 50), fRetI .int]
def cd_474 : List lI := cd_474_0 ++ (cd_474_1)
/-! TowerHouse.isSo(I)I -/
def cd_475_0 : List lI := [aP (pLoadA 0 1), aM (fGet [(45, 6)] 2), aP (pLoadI 1 3), fCallV hdOut 1 [(47, 485)] 4, aP (pIf fz_le 7 5), aP (pPush (.int 1) 6), aP (pGoto 8), aP (pPush (.int 0) 8), fRetI .int]
def cd_475 : List lI := cd_475_0
/-! TowerHouse$Bus$Station.<init>()V -/
def cd_476_0 : List lI := [aP (pLoadA 0 1), fObj 2, aP (pLoadA 0 3), aM (fNew 3 [.null, .int 0, .int 0] 4), aP (pDup 5), fCallV hdOut 0 [(3, 5)] 6, aM (fPut [(46, 1)] (.object "java/util/BitSet") 7), aP (pLoadA 0 8), aM (fNew 4 [.null, .int 0, .int 0] 9), aP (pDup 10), fCallV hdOut 0 [(4, 19)] 11, aM (fPut [(46, 3)] (.object "java/util/ArrayDeque") 12), aP (pLoadA 0 13), aP (pPush (.int (-1)) 14), aM (fPut [(46, 4)] (.int) 15), aP (pLoadA 0 16), aP (pPush (.int (-1)) 17), aM (fPut [(46, 5)] (.int) 18), aP (pLoadA 0 19), aP (pPush (.int (-1)) 20), aM (fPut [(46, 6)] (.int) 21), fRetV]
def cd_476 : List lI := cd_476_0
/-! TowerHouse$Bus$Station.mayBegin(I)V -/
def cd_477_0 : List lI := [aP (pLoadA 0 1), aM (fGet [(46, 4)] 2), aP (pPush (.int (-1)) 3), aP (pCmp fc_ne 34 4), aP (pLoadA 0 5), aM (fGet [(46, 5)] 6), aP (pPush (.int (-1)) 7), aP (pCmp fc_ne 34 8), aP (pLoadA 0 9), aM (fGet [(46, 3)] 10), fCallV hdOut 0 [(4, 20)] 11, aP (pIf fz_ne 34 12), aP (pLoadA 0 13), aM (fGet [(46, 3)] 14), fCallV hdOut 0 [(4, 35)] 15, aM (fCast [93] 16), aP (pStA 2 17), aP (pLoadA 0 18), aP (pLoadI 1 19), aP (pLoadA 2 20), aM (fGet [(93, 0)] 21), aP (pPush (.int 1) 22), aP (pCmp fc_le 28 23), aP (pLoadA 2 24), aM (fGet [(93, 2)] 25), aP (pIf fz_ne 28 26), aP (pPush (.int 53) 27), aP (pGoto 29), aP (pPush (.int 50) 29), aP (pCmp fc_lt 32 30), aP (pPush (.int 0) 31), aP (pGoto 33), aP (pPush (.int (-1)) 33), aM (fPut [(46, 4)] (.int) 34), fRetV]
def cd_477 : List lI := cd_477_0
/-! TowerHouse$Bus$Station.isMeant(IZ)Z -/
def cd_478_0 : List lI := [aP (pLoadA 0 1), aM (fGet [(46, 4)] 2), aP (pPush (.int (-1)) 3), aP (pCmp fc_ne 25 4), aP (pLoadA 0 5), aM (fGet [(46, 5)] 6), aP (pPush (.int (-1)) 7), aP (pCmp fc_ne 25 8), aP (pLoadI 2 9), aP (pIf fz_eq 19 10), aP (pLoadI 1 11), aP (pPush (.int 256) 12), aP (pCmp fc_ge 25 13), aP (pLoadA 0 14), aM (fGet [(46, 1)] 15), aP (pLoadI 1 16), fCallV hdOut 1 [(3, 13)] 17, aP (pIf fz_eq 25 18), aP (pGoto 23), aP (pLoadI 1 20), aP (pLoadA 0 21), aM (fGet [(46, 0)] 22), aP (pCmp fc_ne 25 23), aP (pPush (.int 1) 24), aP (pGoto 26), aP (pPush (.int 0) 26), fRetI .boolean]
def cd_478 : List lI := cd_478_0
/-! TowerHouse$Bus$Station.answer(I)V -/
def cd_479_0 : List lI := [aP (pLoadA 0 1), aP (pLoadI 1 2), aM (fPut [(46, 6)] (.int) 3), aP (pLoadA 0 4), aP (pPush (.int 0) 5), aM (fPut [(46, 7)] (.int) 6), fRetV]
def cd_479 : List lI := cd_479_0
/-! TowerHouse$Bus$Station.sends()I -/
def cd_480_0 : List lI := [aP (pLoadA 0 1), aM (fGet [(46, 4)] 2), aP (pPush (.int (-1)) 3), aP (pCmp fc_ne 6 4), aP (pPush (.int 1) 5), aP (pGoto 13), aP (pLoadA 0 7), aM (fGet [(46, 3)] 8), fCallV hdOut 0 [(4, 35)] 9, aM (fCast [93] 10), aP (pLoadA 0 11), aM (fGet [(46, 4)] 12), fCallV hdOut 1 [(93, 1064)] 13, aP (pStI 1 14), aP (pLoadA 0 15), aM (fGet [(46, 6)] 16), aP (pPush (.int (-1)) 17), aP (pCmp fc_ne 20 18), aP (pLoadI 1 19), aP (pGoto 27), aP (pLoadI 1 21), aP (pLoadA 0 22), aM (fGet [(46, 6)] 23), aP (pLoadA 0 24), aM (fGet [(46, 7)] 25), fCall hdOut 2 1107 26, aP (pBinI (· &&& ·) 27), fRetI .int]
def cd_480 : List lI := cd_480_0
/-! TowerHouse$Bus$Station.hears(II)V -/
def cd_481_0 : List lI := [aP (pLoadA 0 1), aM (fGet [(46, 6)] 2), aP (pPush (.int (-1)) 3), aP (pCmp fc_eq 20 4), aP (pLoadA 0 5), aP (pDup 6), aM (fGet [(46, 7)] 7), aP (pPush (.int 1) 8), aP (pBinI (· + ·) 9), aM (fPut [(46, 7)] (.int) 10), aP (pLoadA 0 11), aP (pLoadA 0 12), aM (fGet [(46, 7)] 13), aP (pPush (.int 11) 14), aP (pCmp fc_ne 17 15), aP (pPush (.int (-1)) 16), aP (pGoto 19), aP (pLoadA 0 18), aM (fGet [(46, 6)] 19), aM (fPut [(46, 6)] (.int) 20), aP (pLoadA 0 21), aM (fGet [(46, 4)] 22), aP (pPush (.int (-1)) 23), aP (pCmp fc_ne 25 24), fRetV, aP (pLoadA 0 26), aM (fGet [(46, 3)] 27), fCallV hdOut 0 [(4, 35)] 28, aM (fCast [93] 29), aP (pStA 3 30), aP (pLoadA 3 31), aP (pLoadA 0 32), aM (fGet [(46, 4)] 33), fCallV hdOut 1 [(93, 1064)] 34, aP (pPush (.int 1) 35), aP (pCmp fc_ne 48 36), aP (pLoadI 1 37), aP (pIf fz_ne 48 38), aP (pLoadA 0 39), aP (pPush (.int (-1)) 40)]
def cd_481_1 : List lI := [aM (fPut [(46, 4)] (.int) 41), aP (pLoadA 0 42), aP (pDup 43), aM (fGet [(46, 10)] 44), aP (pPush (.int 1) 45), aP (pBinI (· + ·) 46), aM (fPut [(46, 10)] (.int) 47), aP (pGoto 68), aP (pLoadA 0 49), aP (pDup 50), aM (fGet [(46, 4)] 51), aP (pPush (.int 1) 52), aP (pBinI (· + ·) 53), aP (pDupX1 54), aM (fPut [(46, 4)] (.int) 55), aP (pLoadA 3 56), fCallV hdOut 0 [(93, 1065)] 57, aP (pCmp fc_ne 68 58), aP (pLoadA 0 59), aP (pPush (.int (-1)) 60), aM (fPut [(46, 4)] (.int) 61), aP (pLoadA 3 62), fCallV hdOut 0 [(93, 1066)] 63, aP (pLoadA 0 64), aP (pLoadI 2 65), aP (pPush (.int 28) 66), aP (pBinI (· + ·) 67), aM (fPut [(46, 5)] (.int) 68), fRetV]
def cd_481 : List lI := cd_481_0 ++ (cd_481_1)
/-! TowerHouse$Bus$Station.look(II)V -/
def cd_482_0 : List lI := [aP (pLoadA 0 1), aM (fGet [(46, 5)] 2), aP (pLoadI 2 3), aP (pCmp fc_eq 5 4), fRetV, aP (pLoadA 0 6), aP (pPush (.int (-1)) 7), aM (fPut [(46, 5)] (.int) 8), aP (pLoadI 1 9), aP (pPush (.int 204) 10), aP (pCmp fc_ne 13 11), aP (pPush (.int 1) 12), aP (pGoto 14), aP (pPush (.int 0) 14), aP (pStI 3 15), aP (pLoadI 3 16), aP (pIf fz_ne 24 17), aP (pLoadA 0 18), aM (fGet [(46, 3)] 19), fCallV hdOut 0 [(4, 35)] 20, aM (fCast [93] 21), aM (fGet [(93, 2)] 22), aP (pPush (.int 4) 23), aP (pCmp fc_ne 49 24), aP (pLoadA 0 25), aM (fGet [(46, 3)] 26), fCallV hdOut 0 [(4, 34)] 27, aM (fCast [93] 28), aP (pStA 4 29), aP (pLoadA 0 30), aP (pDup 31), aM (fGet [(46, 8)] 32), aP (pLoadI 3 33), aP (pIf fz_eq 36 34), aP (pPush (.int 1) 35), aP (pGoto 37), aP (pPush (.int 0) 37), aP (pBinI (· + ·) 38), aM (fPut [(46, 8)] (.int) 39), aP (pLoadA 0 40)]
def cd_482_1 : List lI := [aP (pDup 41), aM (fGet [(46, 9)] 42), aP (pLoadI 3 43), aP (pIf fz_eq 46 44), aP (pPush (.int 0) 45), aP (pGoto 47), aP (pPush (.int 1) 47), aP (pBinI (· + ·) 48), aM (fPut [(46, 9)] (.int) 49), fRetV]
def cd_482 : List lI := cd_482_0 ++ (cd_482_1)
/-! TowerHouse$Warden.<init>(LTowerHouse$Program;LTowerHouse$Bus;)V -/
def cd_483_0 : List lI := [aP (pLoadA 0 1), fObj 2, aP (pLoadA 0 3), aM (fNew 13 [.int 0, .null, .int 0] 4), aP (pDup 5), fCallV hdOut 0 [(13, 76)] 6, aM (fPut [(47, 0)] (.object "java/util/ArrayList") 7), aP (pLoadA 0 8), aM (fNew 35 [.null, .int 0, .int 0, .int 0] 9), aP (pDup 10), fCallV hdOut 0 [(35, 195)] 11, aM (fPut [(47, 1)] (.object "java/lang/StringBuilder") 12), aP (pLoadA 0 13), aM (fNew 48 [.null, .null, .null] 14), aP (pDup 15), fCallV hdOut 0 [(48, 517)] 16, aM (fPut [(47, 2)] (.object "TowerHouse$Warden$Matrix") 17), aP (pLoadA 0 18), aP (pPush (.int 60) 19), aM (fNewa 0 (.int 0) 20), aM (fPut [(47, 3)] (.array .int) 21), aP (pLoadA 0 22), aP (pPush (.int 60) 23), aM (fNewa 0 (.int 0) 24), aM (fPut [(47, 4)] (.array .int) 25), aP (pLoadA 0 26), aP (pPush (.int 60) 27), aM (fNewa 3 (.int 0) 28), aM (fPut [(47, 5)] (.array .boolean) 29), aP (pLoadA 0 30), aM (fNew 13 [.int 0, .null, .int 0] 31), aP (pDup 32), fCallV hdOut 0 [(13, 76)] 33, aM (fPut [(47, 7)] (.object "java/util/ArrayList") 34), aP (pLoadA 0 35), aP (pLoadA 1 36), aM (fPut [(47, 10)] (.object "TowerHouse$Program") 37), aP (pLoadA 0 38), aP (pLoadA 2 39), aM (fPut [(47, 11)] (.object "TowerHouse$Bus") 40)]
def cd_483_1 : List lI := [fRetV]
def cd_483 : List lI := cd_483_0 ++ (cd_483_1)

